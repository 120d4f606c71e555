set_option maxRecDepth 100000
theorem sX3_parse_5 (d : Nat) (hd : 1 ≤ d) (h : SG) : evS true d 47 5 [(0, .ref 31), (1, .ref 93)] [] h = kV (mS true (d - 1) 129 [.ref 93] h) (fun h1 => evS true d 47 11 [(0, .ref 31), (1, .ref 93), (2, .int (0 : Int32))] [] h1) := by
  obtain ⟨d, rfl⟩ : ∃ e, d = e + 1 := ⟨d - 1, by omega⟩
  refine (es_st 1 (pc' := 6) (L' := [(0, .ref 31), (1, .ref 93)]) (S' := [.ref 93]) (h' := h) rfl).trans ?_
  refine (es_cV (b := true) (k' := 129) (pc' := 9) (as := [.ref 93]) (S' := []) (L' := [(0, .ref 31), (1, .ref 93)]) (h' := h) rfl rfl rfl rfl rfl).trans (kV_cg fun h1 => ?_)
  refine (es_st 2 (pc' := 11) (L' := [(2, .int (0 : Int32)), (0, .ref 31), (1, .ref 93)]) (S' := []) (h' := h1) rfl).trans ?_
  exact es_cut rfl rfl rfl
theorem sX3_parse_11 (d : Nat) (hd : 1 ≤ d) (h : SG) (x0_2 : Int32) : evS true d 47 11 [(0, .ref 31), (1, .ref 93), (2, .int x0_2)] [] h = if (sF h 27 3) ≤ x0_2 then kV (mS true (d - 1) 48 [.ref 31] (uF h 31 2 (0 : Int32))) (fun h1 => kV (mS true (d - 1) 48 [.ref 31] (uF h1 31 2 (1 : Int32))) (fun h2 => some (.inl none, h2))) else if ixN x0_2 65536 = true then if ixN x0_2 65536 = true then evS true d 47 11 [(0, .ref 31), (1, .ref 93), (2, .int (x0_2 + (1 : Int32)))] [] (uF h 106 x0_2.toNatClampNeg ((sF h 30 x0_2.toNatClampNeg).toInt8.toInt32)) else none else none := by
  obtain ⟨d, rfl⟩ : ∃ e, d = e + 1 := ⟨d - 1, by omega⟩
  refine (es_st 4 (pc' := 19) (L' := [(0, .ref 31), (1, .ref 93), (2, .int x0_2)]) (S' := [.int (sF h 27 3), .int x0_2]) (h' := h) rfl).trans ?_
  refine (is_ge (t := 43) rfl rfl rfl).trans (if_cg ?_ ?_)
  · refine (es_st 4 (pc' := 49) (L' := [(0, .ref 31), (1, .ref 93), (2, .int x0_2)]) (S' := [.ref 31]) (h' := (uF h 31 2 (0 : Int32))) rfl).trans ?_
    refine (es_cV (b := true) (k' := 48) (pc' := 52) (as := [.ref 31]) (S' := []) (L' := [(0, .ref 31), (1, .ref 93), (2, .int x0_2)]) (h' := (uF h 31 2 (0 : Int32))) rfl rfl rfl rfl rfl).trans (kV_cg fun h1 => ?_)
    refine (es_st 4 (pc' := 58) (L' := [(0, .ref 31), (1, .ref 93), (2, .int x0_2)]) (S' := [.ref 31]) (h' := (uF h1 31 2 (1 : Int32))) rfl).trans ?_
    refine (es_cV (b := true) (k' := 48) (pc' := 61) (as := [.ref 31]) (S' := []) (L' := [(0, .ref 31), (1, .ref 93), (2, .int x0_2)]) (h' := (uF h1 31 2 (1 : Int32))) rfl rfl rfl rfl rfl).trans (kV_cg fun h2 => ?_)
    exact es_fin rfl rfl rfl
  · refine (es_st 7 (pc' := 35) (L' := [(0, .ref 31), (1, .ref 93), (2, .int x0_2)]) (S' := [.int x0_2, .ref 30, .int x0_2, .ref 106]) (h' := h) rfl).trans ?_
    refine (es_ix (c := ixN x0_2 65536 = true) (x := (sF h 30 x0_2.toNatClampNeg)) (pc' := 36) (L' := [(0, .ref 31), (1, .ref 93), (2, .int x0_2)]) (S' := fun z => [.int z, .int x0_2, .ref 106]) (h' := fun z => h) rfl rfl rfl).trans (if_cgn ?_)
    refine (es_ix (c := ixN x0_2 65536 = true) (x := (uF h 106 x0_2.toNatClampNeg ((sF h 30 x0_2.toNatClampNeg).toInt8.toInt32))) (pc' := 37) (L' := [(0, .ref 31), (1, .ref 93), (2, .int x0_2)]) (S' := fun z => []) (h' := fun z => z) rfl rfl rfl).trans (if_cgn ?_)
    refine (es_st 2 (pc' := 11) (L' := [(2, .int (x0_2 + (1 : Int32))), (0, .ref 31), (1, .ref 93)]) (S' := []) (h' := (uF h 106 x0_2.toNatClampNeg ((sF h 30 x0_2.toNatClampNeg).toInt8.toInt32))) rfl).trans ?_
    exact es_cut rfl rfl rfl
theorem sX3_design_0 (d : Nat) (hd : 1 ≤ d) (h : SG) : mS true d 48 [.ref 31] h = kV (mS true (d - 1) 29 [.ref 27] (uF h 31 4 (0 : Int32))) (fun h1 => if (sF h1 27 6) = (300 : Int32) then kV (mS true (d - 1) 49 [.ref 31, .int (1 : Int32), .int (2 : Int32), .int (sF h1 27 7)] h1) (fun h3 => evS true d 48 42 [(0, .ref 31)] [] h3) else kV (mS true (d - 1) 49 [.ref 31, .int (0 : Int32), .int (2 : Int32), .int (sF h1 27 7)] h1) (fun h2 => evS true d 48 42 [(0, .ref 31)] [] h2)) := by
  obtain ⟨d, rfl⟩ : ∃ e, d = e + 1 := ⟨d - 1, by omega⟩
  show evS true (d + 1) 48 0 [(0, .ref 31)] [] h = _
  refine (es_st 5 (pc' := 9) (L' := [(0, .ref 31)]) (S' := [.ref 27]) (h' := (uF h 31 4 (0 : Int32))) rfl).trans ?_
  refine (es_cV (b := true) (k' := 29) (pc' := 12) (as := [.ref 27]) (S' := []) (L' := [(0, .ref 31)]) (h' := (uF h 31 4 (0 : Int32))) rfl rfl rfl rfl rfl).trans (kV_cg fun h1 => ?_)
  refine (es_st 5 (pc' := 23) (L' := [(0, .ref 31)]) (S' := [.int (300 : Int32), .int (sF h1 27 6), .ref 31]) (h' := h1) rfl).trans ?_
  refine (is_ne (t := 30) rfl rfl rfl).trans (if_cg ?_ ?_)
  · refine (es_st 6 (pc' := 39) (L' := [(0, .ref 31)]) (S' := [.int (sF h1 27 7), .int (2 : Int32), .int (1 : Int32), .ref 31]) (h' := h1) rfl).trans ?_
    refine (es_cV (b := true) (k' := 49) (pc' := 42) (as := [.ref 31, .int (1 : Int32), .int (2 : Int32), .int (sF h1 27 7)]) (S' := []) (L' := [(0, .ref 31)]) (h' := h1) rfl rfl rfl rfl rfl).trans (kV_cg fun h3 => ?_)
    exact es_cut rfl rfl rfl
  · refine (es_st 5 (pc' := 39) (L' := [(0, .ref 31)]) (S' := [.int (sF h1 27 7), .int (2 : Int32), .int (0 : Int32), .ref 31]) (h' := h1) rfl).trans ?_
    refine (es_cV (b := true) (k' := 49) (pc' := 42) (as := [.ref 31, .int (0 : Int32), .int (2 : Int32), .int (sF h1 27 7)]) (S' := []) (L' := [(0, .ref 31)]) (h' := h1) rfl rfl rfl rfl rfl).trans (kV_cg fun h2 => ?_)
    exact es_cut rfl rfl rfl
theorem sX3_design_42 (d : Nat) (hd : 1 ≤ d) (h : SG) : evS true d 48 42 [(0, .ref 31)] [] h = if (sF h 27 6) = (256 : Int32) then some (.inl none, h) else kV (mS true (d - 1) 51 [.ref 31] h) (fun h1 => evS true d 48 42 [(0, .ref 31)] [] h1) := by
  obtain ⟨d, rfl⟩ : ∃ e, d = e + 1 := ⟨d - 1, by omega⟩
  refine (es_st 4 (pc' := 52) (L' := [(0, .ref 31)]) (S' := [.int (256 : Int32), .int (sF h 27 6)]) (h' := h) rfl).trans ?_
  refine (is_eq (t := 62) rfl rfl rfl).trans (if_cg ?_ ?_)
  · exact es_fin rfl rfl rfl
  · refine (es_st 1 (pc' := 56) (L' := [(0, .ref 31)]) (S' := [.ref 31]) (h' := h) rfl).trans ?_
    refine (es_cV (b := true) (k' := 51) (pc' := 59) (as := [.ref 31]) (S' := []) (L' := [(0, .ref 31)]) (h' := h) rfl rfl rfl rfl rfl).trans (kV_cg fun h1 => ?_)
    refine (es_st 1 (pc' := 42) (L' := [(0, .ref 31)]) (S' := []) (h' := h1) rfl).trans ?_
    exact es_cut rfl rfl rfl
theorem sX3_need_0 (d : Nat) (hd : 1 ≤ d) (h : SG) (x0_1 : Int32) (x0_2 : Int32) (x0_3 : Int32) : mS true d 49 [.ref 31, .int x0_1, .int x0_2, .int x0_3] h = if x0_1 = 0 then kR (mS true (d - 1) 50 [.ref 31, .int x0_2, .int x0_3] h) (fun a2 h1 => ckS (Nat.beq a2 29) (some (.inr 0, h1))) else some (.inl none, h) := by
  obtain ⟨d, rfl⟩ : ∃ e, d = e + 1 := ⟨d - 1, by omega⟩
  show evS true (d + 1) 49 0 [(0, .ref 31), (1, .int x0_1), (2, .int x0_2), (3, .int x0_3)] [] h = _
  refine (es_st 1 (pc' := 1) (L' := [(0, .ref 31), (1, .int x0_1), (2, .int x0_2), (3, .int x0_3)]) (S' := [.int x0_1]) (h' := h) rfl).trans ?_
  refine (zs_ne (t := 11) rfl rfl rfl).trans (if_cg ?_ ?_)
  · refine (es_st 3 (pc' := 7) (L' := [(0, .ref 31), (1, .int x0_1), (2, .int x0_2), (3, .int x0_3)]) (S' := [.int x0_3, .int x0_2, .ref 31]) (h' := h) rfl).trans ?_
    refine (es_cR (b := true) (k' := 50) (pc' := 10) (as := [.ref 31, .int x0_2, .int x0_3]) (S' := []) (L' := [(0, .ref 31), (1, .int x0_1), (2, .int x0_2), (3, .int x0_3)]) (h' := h) rfl rfl rfl rfl rfl).trans (kR_cg fun a2 h1 => ?_)
    exact es_thr rfl rfl rfl
  · exact es_fin rfl rfl rfl
theorem sX3_flaw_0 (d : Nat) (hd : 1 ≤ d) (h : SG) (x0_1 : Int32) (x0_2 : Int32) : mS true d 50 [.ref 31, .int x0_1, .int x0_2] h = kR (mS true (d - 1) 33 [.ref 27, .int x0_1, .int x0_2] h) (fun a2 h1 => some (.inl (some (.ref a2)), h1)) := by
  obtain ⟨d, rfl⟩ : ∃ e, d = e + 1 := ⟨d - 1, by omega⟩
  show evS true (d + 1) 50 0 [(0, .ref 31), (1, .int x0_1), (2, .int x0_2)] [] h = _
  refine (es_st 4 (pc' := 6) (L' := [(0, .ref 31), (1, .int x0_1), (2, .int x0_2)]) (S' := [.int x0_2, .int x0_1, .ref 27]) (h' := h) rfl).trans ?_
  refine (es_cR (b := true) (k' := 33) (pc' := 9) (as := [.ref 27, .int x0_1, .int x0_2]) (S' := []) (L' := [(0, .ref 31), (1, .int x0_1), (2, .int x0_2)]) (h' := h) rfl rfl rfl rfl rfl).trans (kR_cg fun a2 h1 => ?_)
  exact es_fin rfl rfl rfl
theorem sX3_module_0 (d : Nat) (hd : 4 ≤ d) (h : SG) : mS true d 51 [.ref 31] h = kV (mS true (d - 1) 44 [.ref 27, .int (300 : Int32)] h) (fun h1 => if (sF h1 27 6) = (257 : Int32) then evS true d 51 29 [(0, .ref 31)] [.int (1 : Int32), .ref 31] h1 else evS true d 51 29 [(0, .ref 31)] [.int (0 : Int32), .ref 31] h1) := by
  obtain ⟨d, rfl⟩ : ∃ e, d = e + 4 := ⟨d - 4, by omega⟩
  show evS true (d + 4) 51 0 [(0, .ref 31)] [] h = _
  refine (es_st 3 (pc' := 7) (L' := [(0, .ref 31)]) (S' := [.int (300 : Int32), .ref 27]) (h' := h) rfl).trans ?_
  refine (es_cV (b := true) (k' := 44) (pc' := 10) (as := [.ref 27, .int (300 : Int32)]) (S' := []) (L' := [(0, .ref 31)]) (h' := h) rfl rfl rfl rfl rfl).trans (kV_cg fun h1 => ?_)
  refine (es_st 5 (pc' := 21) (L' := [(0, .ref 31)]) (S' := [.int (257 : Int32), .int (sF h1 27 6), .ref 31]) (h' := h1) rfl).trans ?_
  refine (is_ne (t := 28) rfl rfl rfl).trans (if_cg ?_ ?_)
  · refine (es_st 2 (pc' := 29) (L' := [(0, .ref 31)]) (S' := [.int (1 : Int32), .ref 31]) (h' := h1) rfl).trans ?_
    exact es_cut rfl rfl rfl
  · refine (es_st 1 (pc' := 29) (L' := [(0, .ref 31)]) (S' := [.int (0 : Int32), .ref 31]) (h' := h1) rfl).trans ?_
    exact es_cut rfl rfl rfl
theorem sX3_module_29 (d : Nat) (hd : 4 ≤ d) (h : SG) (s0 : Int32) : evS true d 51 29 [(0, .ref 31)] [.int s0, .ref 31] h = kV (mS true (d - 1) 49 [.ref 31, .int s0, .int (2 : Int32), .int (sF h 27 7)] h) (fun h1 => kI (mS true (d - 1) 130 [.ref 93] h1) (fun x3 h2 => if (sF (uF h2 31 3 x3) 31 2) = 0 then evS true d 51 222 [(0, .ref 31), (3, .int (0 : Int32))] [] (uF h2 31 3 x3) else kI (mS true (d - 1) 131 [.ref 93, .ref 30, .int (sF h1 27 7), .int ((sF h1 27 8) - (sF h1 27 7))] (uF h2 31 3 x3)) (fun x5 h4 => if x5 = (-1 : Int32) then evS true d 51 104 [(0, .ref 31), (1, .int (sF h1 27 7)), (2, .int ((sF h1 27 8) - (sF h1 27 7))), (3, .int (0 : Int32))] [.int (1 : Int32), .ref 31] h4 else evS true d 51 104 [(0, .ref 31), (1, .int (sF h1 27 7)), (2, .int ((sF h1 27 8) - (sF h1 27 7))), (3, .int (0 : Int32))] [.int (0 : Int32), .ref 31] h4))) := by
  obtain ⟨d, rfl⟩ : ∃ e, d = e + 4 := ⟨d - 4, by omega⟩
  refine (es_st 4 (pc' := 37) (L' := [(0, .ref 31)]) (S' := [.int (sF h 27 7), .int (2 : Int32), .int s0, .ref 31]) (h' := h) rfl).trans ?_
  refine (es_cV (b := true) (k' := 49) (pc' := 40) (as := [.ref 31, .int s0, .int (2 : Int32), .int (sF h 27 7)]) (S' := []) (L' := [(0, .ref 31)]) (h' := h) rfl rfl rfl rfl rfl).trans (kV_cg fun h1 => ?_)
  refine (es_st 13 (pc' := 63) (L' := [(2, .int ((sF h1 27 8) - (sF h1 27 7))), (1, .int (sF h1 27 7)), (0, .ref 31)]) (S' := [.ref 93, .ref 31]) (h' := h1) rfl).trans ?_
  refine (es_cI (b := true) (k' := 130) (pc' := 66) (as := [.ref 93]) (S' := [.ref 31]) (L' := [(2, .int ((sF h1 27 8) - (sF h1 27 7))), (1, .int (sF h1 27 7)), (0, .ref 31)]) (h' := h1) rfl rfl rfl rfl rfl).trans (kI_cg fun x3 h2 => ?_)
  refine (es_st 5 (pc' := 75) (L' := [(3, .int (0 : Int32)), (2, .int ((sF h1 27 8) - (sF h1 27 7))), (1, .int (sF h1 27 7)), (0, .ref 31)]) (S' := [.int (sF (uF h2 31 3 x3) 31 2)]) (h' := (uF h2 31 3 x3)) rfl).trans ?_
  refine (zs_eq (t := 222) rfl rfl rfl).trans (if_cg ?_ ?_)
  · exact es_cut rfl rfl rfl
  · refine (es_st 8 (pc' := 92) (L' := [(3, .int (0 : Int32)), (2, .int ((sF h1 27 8) - (sF h1 27 7))), (1, .int (sF h1 27 7)), (0, .ref 31)]) (S' := [.int ((sF h1 27 8) - (sF h1 27 7)), .int (sF h1 27 7), .ref 30, .ref 93, .ref 31]) (h' := (uF h2 31 3 x3)) rfl).trans ?_
    refine (es_cI (b := true) (k' := 131) (pc' := 95) (as := [.ref 93, .ref 30, .int (sF h1 27 7), .int ((sF h1 27 8) - (sF h1 27 7))]) (S' := [.ref 31]) (L' := [(3, .int (0 : Int32)), (2, .int ((sF h1 27 8) - (sF h1 27 7))), (1, .int (sF h1 27 7)), (0, .ref 31)]) (h' := (uF h2 31 3 x3)) rfl rfl rfl rfl rfl).trans (kI_cg fun x5 h4 => ?_)
    refine (es_st 1 (pc' := 96) (L' := [(3, .int (0 : Int32)), (2, .int ((sF h1 27 8) - (sF h1 27 7))), (1, .int (sF h1 27 7)), (0, .ref 31)]) (S' := [.int (-1 : Int32), .int x5, .ref 31]) (h' := h4) rfl).trans ?_
    refine (is_ne (t := 103) rfl rfl rfl).trans (if_cg ?_ ?_)
    · refine (es_st 2 (pc' := 104) (L' := [(3, .int (0 : Int32)), (2, .int ((sF h1 27 8) - (sF h1 27 7))), (1, .int (sF h1 27 7)), (0, .ref 31)]) (S' := [.int (1 : Int32), .ref 31]) (h' := h4) rfl).trans ?_
      exact es_cut rfl rfl rfl
    · refine (es_st 1 (pc' := 104) (L' := [(3, .int (0 : Int32)), (2, .int ((sF h1 27 8) - (sF h1 27 7))), (1, .int (sF h1 27 7)), (0, .ref 31)]) (S' := [.int (0 : Int32), .ref 31]) (h' := h4) rfl).trans ?_
      exact es_cut rfl rfl rfl
theorem sX3_module_104 (d : Nat) (hd : 4 ≤ d) (h : SG) (x0_1 : Int32) (x0_2 : Int32) (x0_3 : Int32) (s0 : Int32) : evS true d 51 104 [(0, .ref 31), (1, .int x0_1), (2, .int x0_2), (3, .int x0_3)] [.int s0, .ref 31] h = kV (mS true (d - 1) 49 [.ref 31, .int s0, .int (20 : Int32), .int x0_1] h) (fun h1 => ob (rAdd h1 96 x0_1) (fun q2 => ob (rAdd q2.2 96 x0_2) (fun q3 => ob (rAdd q3.2 96 ((Int32.ofNat (sW q3.2 94).length) / (8 : Int32))) (fun q4 => ob (rAdd q4.2 96 ((Int32.ofNat (sW q4.2 98).length) / (4 : Int32))) (fun q5 => evS true d 51 184 [(0, .ref 31), (3, .int x0_3), (4, .int (4 : Int32))] [] q5.2))))) := by
  obtain ⟨d, rfl⟩ : ∃ e, d = e + 4 := ⟨d - 4, by omega⟩
  refine (es_st 2 (pc' := 107) (L' := [(0, .ref 31), (1, .int x0_1), (2, .int x0_2), (3, .int x0_3)]) (S' := [.int x0_1, .int (20 : Int32), .int s0, .ref 31]) (h' := h) rfl).trans ?_
  refine (es_cV (b := true) (k' := 49) (pc' := 110) (as := [.ref 31, .int s0, .int (20 : Int32), .int x0_1]) (S' := []) (L' := [(0, .ref 31), (1, .int x0_1), (2, .int x0_2), (3, .int x0_3)]) (h' := h) rfl rfl rfl rfl rfl).trans (kV_cg fun h1 => ?_)
  refine (es_st 4 (pc' := 118) (L' := [(0, .ref 31), (1, .int x0_1), (2, .int x0_2), (3, .int x0_3)]) (S' := [.int x0_1, .ref 96]) (h' := h1) rfl).trans ?_
  refine (es_ob (o := rAdd h1 96 x0_1) (pc' := 121) (L' := [(0, .ref 31), (1, .int x0_1), (2, .int x0_2), (3, .int x0_3)]) (S' := fun z => [.int z.1]) (h' := fun z => z.2) rfl rfl rfl).trans (ob_cg fun q2 => ?_)
  refine (es_st 5 (pc' := 130) (L' := [(0, .ref 31), (1, .int x0_1), (2, .int x0_2), (3, .int x0_3)]) (S' := [.int x0_2, .ref 96]) (h' := q2.2) rfl).trans ?_
  refine (es_ob (o := rAdd q2.2 96 x0_2) (pc' := 133) (L' := [(0, .ref 31), (1, .int x0_1), (2, .int x0_2), (3, .int x0_3)]) (S' := fun z => [.int z.1]) (h' := fun z => z.2) rfl rfl rfl).trans (ob_cg fun q3 => ?_)
  refine (es_st 10 (pc' := 154) (L' := [(0, .ref 31), (1, .int x0_1), (2, .int x0_2), (3, .int x0_3)]) (S' := [.int ((Int32.ofNat (sW q3.2 94).length) / (8 : Int32)), .ref 96]) (h' := q3.2) rfl).trans ?_
  refine (es_ob (o := rAdd q3.2 96 ((Int32.ofNat (sW q3.2 94).length) / (8 : Int32))) (pc' := 157) (L' := [(0, .ref 31), (1, .int x0_1), (2, .int x0_2), (3, .int x0_3)]) (S' := fun z => [.int z.1]) (h' := fun z => z.2) rfl rfl rfl).trans (ob_cg fun q4 => ?_)
  refine (es_st 10 (pc' := 177) (L' := [(0, .ref 31), (1, .int x0_1), (2, .int x0_2), (3, .int x0_3)]) (S' := [.int ((Int32.ofNat (sW q4.2 98).length) / (4 : Int32)), .ref 96]) (h' := q4.2) rfl).trans ?_
  refine (es_ob (o := rAdd q4.2 96 ((Int32.ofNat (sW q4.2 98).length) / (4 : Int32))) (pc' := 180) (L' := [(0, .ref 31), (1, .int x0_1), (2, .int x0_2), (3, .int x0_3)]) (S' := fun z => [.int z.1]) (h' := fun z => z.2) rfl rfl rfl).trans (ob_cg fun q5 => ?_)
  refine (es_st 3 (pc' := 184) (L' := [(4, .int (4 : Int32)), (0, .ref 31), (1, .int x0_1), (2, .int x0_2), (3, .int x0_3)]) (S' := []) (h' := q5.2) rfl).trans ?_
  exact es_cut rfl rfl rfl
theorem sX3_module_184 (d : Nat) (hd : 4 ≤ d) (h : SG) (x0_3 : Int32) (x0_4 : Int32) : evS true d 51 184 [(0, .ref 31), (3, .int x0_3), (4, .int x0_4)] [] h = if (7 : Int32) ≤ x0_4 then ob (pSz h 38 (0 : Int32)) (fun h1 => evS true d 51 222 [(0, .ref 31), (3, .int x0_3)] [] (uF h1 31 9 (0 : Int32))) else ob (rAdd h 96 (0 : Int32)) (fun q2 => evS true d 51 184 [(0, .ref 31), (3, .int x0_3), (4, .int (x0_4 + (1 : Int32)))] [] q2.2) := by
  obtain ⟨d, rfl⟩ : ∃ e, d = e + 4 := ⟨d - 4, by omega⟩
  refine (es_st 2 (pc' := 188) (L' := [(0, .ref 31), (3, .int x0_3), (4, .int x0_4)]) (S' := [.int (7 : Int32), .int x0_4]) (h' := h) rfl).trans ?_
  refine (is_ge (t := 209) rfl rfl rfl).trans (if_cg ?_ ?_)
  · refine (es_st 3 (pc' := 214) (L' := [(0, .ref 31), (3, .int x0_3), (4, .int x0_4)]) (S' := [.int (0 : Int32), .ref 38]) (h' := h) rfl).trans ?_
    refine (es_ob (o := pSz h 38 (0 : Int32)) (pc' := 217) (L' := [(0, .ref 31), (3, .int x0_3), (4, .int x0_4)]) (S' := fun z => []) (h' := fun z => z) rfl rfl rfl).trans (ob_cg fun h1 => ?_)
    refine (es_st 3 (pc' := 222) (L' := [(0, .ref 31), (3, .int x0_3), (4, .int x0_4)]) (S' := []) (h' := (uF h1 31 9 (0 : Int32))) rfl).trans ?_
    exact es_cut rfl rfl rfl
  · refine (es_st 4 (pc' := 199) (L' := [(0, .ref 31), (3, .int x0_3), (4, .int x0_4)]) (S' := [.int (0 : Int32), .ref 96]) (h' := h) rfl).trans ?_
    refine (es_ob (o := rAdd h 96 (0 : Int32)) (pc' := 202) (L' := [(0, .ref 31), (3, .int x0_3), (4, .int x0_4)]) (S' := fun z => [.int z.1]) (h' := fun z => z.2) rfl rfl rfl).trans (ob_cg fun q2 => ?_)
    refine (es_st 3 (pc' := 184) (L' := [(4, .int (x0_4 + (1 : Int32))), (0, .ref 31), (3, .int x0_3)]) (S' := []) (h' := q2.2) rfl).trans ?_
    exact es_cut rfl rfl rfl
theorem sX3_module_222 (d : Nat) (hd : 4 ≤ d) (h : SG) (x0_3 : Int32) : evS true d 51 222 [(0, .ref 31), (3, .int x0_3)] [] h = kV (mS true (d - 1) 30 [.ref 27] h) (fun h1 => kV (mS true (d - 1) 44 [.ref 27, .int (40 : Int32)] h1) (fun h2 => if (sF h2 27 6) = (41 : Int32) then evS true d 51 279 [(0, .ref 31), (3, .int x0_3)] [] h2 else kV (mS true (d - 1) 52 [.ref 31] h2) (fun h3 => evS true d 51 257 [(0, .ref 31), (3, .int (x0_3 + (1 : Int32)))] [] h3))) := by
  obtain ⟨d, rfl⟩ : ∃ e, d = e + 4 := ⟨d - 4, by omega⟩
  refine (es_st 2 (pc' := 226) (L' := [(0, .ref 31), (3, .int x0_3)]) (S' := [.ref 27]) (h' := h) rfl).trans ?_
  refine (es_cV (b := true) (k' := 30) (pc' := 229) (as := [.ref 27]) (S' := []) (L' := [(0, .ref 31), (3, .int x0_3)]) (h' := h) rfl rfl rfl rfl rfl).trans (kV_cg fun h1 => ?_)
  refine (es_st 3 (pc' := 235) (L' := [(0, .ref 31), (3, .int x0_3)]) (S' := [.int (40 : Int32), .ref 27]) (h' := h1) rfl).trans ?_
  refine (es_cV (b := true) (k' := 44) (pc' := 238) (as := [.ref 27, .int (40 : Int32)]) (S' := []) (L' := [(0, .ref 31), (3, .int x0_3)]) (h' := h1) rfl rfl rfl rfl rfl).trans (kV_cg fun h2 => ?_)
  refine (es_st 4 (pc' := 247) (L' := [(0, .ref 31), (3, .int x0_3)]) (S' := [.int (41 : Int32), .int (sF h2 27 6)]) (h' := h2) rfl).trans ?_
  refine (is_eq (t := 279) rfl rfl rfl).trans (if_cg ?_ ?_)
  · exact es_cut rfl rfl rfl
  · refine (es_st 1 (pc' := 251) (L' := [(0, .ref 31), (3, .int x0_3)]) (S' := [.ref 31]) (h' := h2) rfl).trans ?_
    refine (es_cV (b := true) (k' := 52) (pc' := 254) (as := [.ref 31]) (S' := []) (L' := [(0, .ref 31), (3, .int x0_3)]) (h' := h2) rfl rfl rfl rfl rfl).trans (kV_cg fun h3 => ?_)
    refine (es_st 1 (pc' := 257) (L' := [(3, .int (x0_3 + (1 : Int32))), (0, .ref 31)]) (S' := []) (h' := h3) rfl).trans ?_
    exact es_cut rfl rfl rfl
theorem sX3_module_257 (d : Nat) (hd : 4 ≤ d) (h : SG) (x0_3 : Int32) : evS true d 51 257 [(0, .ref 31), (3, .int x0_3)] [] h = kI (mS true (d - 1) 45 [.ref 27, .int (44 : Int32)] h) (fun x2 h1 => if x2 = 0 then evS true d 51 279 [(0, .ref 31), (3, .int x0_3)] [] h1 else kV (mS true (d - 1) 52 [.ref 31] h1) (fun h3 => evS true d 51 257 [(0, .ref 31), (3, .int (x0_3 + (1 : Int32)))] [] h3)) := by
  obtain ⟨d, rfl⟩ : ∃ e, d = e + 4 := ⟨d - 4, by omega⟩
  refine (es_st 3 (pc' := 263) (L' := [(0, .ref 31), (3, .int x0_3)]) (S' := [.int (44 : Int32), .ref 27]) (h' := h) rfl).trans ?_
  refine (es_cI (b := true) (k' := 45) (pc' := 266) (as := [.ref 27, .int (44 : Int32)]) (S' := []) (L' := [(0, .ref 31), (3, .int x0_3)]) (h' := h) rfl rfl rfl rfl rfl).trans (kI_cg fun x2 h1 => ?_)
  refine (zs_eq (t := 279) rfl rfl rfl).trans (if_cg ?_ ?_)
  · exact es_cut rfl rfl rfl
  · refine (es_st 1 (pc' := 270) (L' := [(0, .ref 31), (3, .int x0_3)]) (S' := [.ref 31]) (h' := h1) rfl).trans ?_
    refine (es_cV (b := true) (k' := 52) (pc' := 273) (as := [.ref 31]) (S' := []) (L' := [(0, .ref 31), (3, .int x0_3)]) (h' := h1) rfl rfl rfl rfl rfl).trans (kV_cg fun h3 => ?_)
    refine (es_st 2 (pc' := 257) (L' := [(3, .int (x0_3 + (1 : Int32))), (0, .ref 31)]) (S' := []) (h' := h3) rfl).trans ?_
    exact es_cut rfl rfl rfl
theorem sX3_module_279 (d : Nat) (hd : 4 ≤ d) (h : SG) (x0_3 : Int32) : evS true d 51 279 [(0, .ref 31), (3, .int x0_3)] [] h = kV (mS true (d - 1) 44 [.ref 27, .int (41 : Int32)] h) (fun h1 => kV (mS true (d - 1) 44 [.ref 27, .int (59 : Int32)] h1) (fun h2 => if (sF h2 31 2) = 0 then evS true d 51 324 [(0, .ref 31)] [] h2 else ob (rSet h2 96 (((7 : Int32) * (sF h2 31 3)) + (4 : Int32)) x0_3) (fun h3 => evS true d 51 324 [(0, .ref 31)] [] h3))) := by
  obtain ⟨d, rfl⟩ : ∃ e, d = e + 4 := ⟨d - 4, by omega⟩
  refine (es_st 3 (pc' := 285) (L' := [(0, .ref 31), (3, .int x0_3)]) (S' := [.int (41 : Int32), .ref 27]) (h' := h) rfl).trans ?_
  refine (es_cV (b := true) (k' := 44) (pc' := 288) (as := [.ref 27, .int (41 : Int32)]) (S' := []) (L' := [(0, .ref 31), (3, .int x0_3)]) (h' := h) rfl rfl rfl rfl rfl).trans (kV_cg fun h1 => ?_)
  refine (es_st 3 (pc' := 294) (L' := [(0, .ref 31), (3, .int x0_3)]) (S' := [.int (59 : Int32), .ref 27]) (h' := h1) rfl).trans ?_
  refine (es_cV (b := true) (k' := 44) (pc' := 297) (as := [.ref 27, .int (59 : Int32)]) (S' := []) (L' := [(0, .ref 31), (3, .int x0_3)]) (h' := h1) rfl rfl rfl rfl rfl).trans (kV_cg fun h2 => ?_)
  refine (es_st 2 (pc' := 301) (L' := [(0, .ref 31), (3, .int x0_3)]) (S' := [.int (sF h2 31 2)]) (h' := h2) rfl).trans ?_
  refine (zs_eq (t := 324) rfl rfl rfl).trans (if_cg ?_ ?_)
  · exact es_cut rfl rfl rfl
  · refine (es_st 10 (pc' := 321) (L' := [(0, .ref 31), (3, .int x0_3)]) (S' := [.int x0_3, .int (((7 : Int32) * (sF h2 31 3)) + (4 : Int32)), .ref 96]) (h' := h2) rfl).trans ?_
    refine (es_ob (o := rSet h2 96 (((7 : Int32) * (sF h2 31 3)) + (4 : Int32)) x0_3) (pc' := 324) (L' := [(0, .ref 31), (3, .int x0_3)]) (S' := fun z => []) (h' := fun z => z) rfl rfl rfl).trans (ob_cg fun h3 => ?_)
    exact es_cut rfl rfl rfl
theorem sX3_module_324 (d : Nat) (hd : 4 ≤ d) (h : SG) : evS true d 51 324 [(0, .ref 31)] [] h = if (sF h 27 6) = (301 : Int32) then if (sF h 31 2) = 0 then kV (mS true (d - 1) 30 [.ref 27] h) (fun h1 => some (.inl none, h1)) else kV (mS true (d - 1) 87 [.ref 31] h) (fun h2 => kV (mS true (d - 1) 30 [.ref 27] h2) (fun h3 => some (.inl none, h3))) else kV (mS true (d - 1) 57 [.ref 31] h) (fun h4 => evS true d 51 324 [(0, .ref 31)] [] h4) := by
  obtain ⟨d, rfl⟩ : ∃ e, d = e + 4 := ⟨d - 4, by omega⟩
  refine (es_st 4 (pc' := 334) (L' := [(0, .ref 31)]) (S' := [.int (301 : Int32), .int (sF h 27 6)]) (h' := h) rfl).trans ?_
  refine (is_eq (t := 344) rfl rfl rfl).trans (if_cg ?_ ?_)
  · refine (es_st 2 (pc' := 348) (L' := [(0, .ref 31)]) (S' := [.int (sF h 31 2)]) (h' := h) rfl).trans ?_
    refine (zs_eq (t := 355) rfl rfl rfl).trans (if_cg ?_ ?_)
    · refine (es_st 2 (pc' := 359) (L' := [(0, .ref 31)]) (S' := [.ref 27]) (h' := h) rfl).trans ?_
      refine (es_cV (b := true) (k' := 30) (pc' := 362) (as := [.ref 27]) (S' := []) (L' := [(0, .ref 31)]) (h' := h) rfl rfl rfl rfl rfl).trans (kV_cg fun h1 => ?_)
      exact es_fin rfl rfl rfl
    · refine (es_st 1 (pc' := 352) (L' := [(0, .ref 31)]) (S' := [.ref 31]) (h' := h) rfl).trans ?_
      refine (es_cV (b := true) (k' := 87) (pc' := 355) (as := [.ref 31]) (S' := []) (L' := [(0, .ref 31)]) (h' := h) rfl rfl rfl rfl rfl).trans (kV_cg fun h2 => ?_)
      refine (es_st 2 (pc' := 359) (L' := [(0, .ref 31)]) (S' := [.ref 27]) (h' := h2) rfl).trans ?_
      refine (es_cV (b := true) (k' := 30) (pc' := 362) (as := [.ref 27]) (S' := []) (L' := [(0, .ref 31)]) (h' := h2) rfl rfl rfl rfl rfl).trans (kV_cg fun h3 => ?_)
      exact es_fin rfl rfl rfl
  · refine (es_st 1 (pc' := 338) (L' := [(0, .ref 31)]) (S' := [.ref 31]) (h' := h) rfl).trans ?_
    refine (es_cV (b := true) (k' := 57) (pc' := 341) (as := [.ref 31]) (S' := []) (L' := [(0, .ref 31)]) (h' := h) rfl rfl rfl rfl rfl).trans (kV_cg fun h4 => ?_)
    refine (es_st 1 (pc' := 324) (L' := [(0, .ref 31)]) (S' := []) (h' := h4) rfl).trans ?_
    exact es_cut rfl rfl rfl
theorem sX3_port_0 (d : Nat) (hd : 1 ≤ d) (h : SG) : mS true d 52 [.ref 31] h = if (sF h 27 6) = (302 : Int32) then if (1 : Int32) = 0 then if (sF h 27 6) = (303 : Int32) then evS true d 52 42 [(0, .ref 31), (1, .int (1 : Int32))] [.int (1 : Int32), .ref 31] h else evS true d 52 42 [(0, .ref 31), (1, .int (1 : Int32))] [.int (0 : Int32), .ref 31] h else evS true d 52 42 [(0, .ref 31), (1, .int (1 : Int32))] [.int (1 : Int32), .ref 31] h else if (0 : Int32) = 0 then if (sF h 27 6) = (303 : Int32) then evS true d 52 42 [(0, .ref 31), (1, .int (0 : Int32))] [.int (1 : Int32), .ref 31] h else evS true d 52 42 [(0, .ref 31), (1, .int (0 : Int32))] [.int (0 : Int32), .ref 31] h else evS true d 52 42 [(0, .ref 31), (1, .int (0 : Int32))] [.int (1 : Int32), .ref 31] h := by
  obtain ⟨d, rfl⟩ : ∃ e, d = e + 1 := ⟨d - 1, by omega⟩
  show evS true (d + 1) 52 0 [(0, .ref 31)] [] h = _
  refine (es_st 4 (pc' := 10) (L' := [(0, .ref 31)]) (S' := [.int (302 : Int32), .int (sF h 27 6)]) (h' := h) rfl).trans ?_
  refine (is_ne (t := 17) rfl rfl rfl).trans (if_cg ?_ ?_)
  · refine (es_st 5 (pc' := 21) (L' := [(1, .int (1 : Int32)), (0, .ref 31)]) (S' := [.int (1 : Int32), .ref 31]) (h' := h) rfl).trans ?_
    refine (zs_ne (t := 37) rfl rfl rfl).trans (if_cg ?_ ?_)
    · refine (es_st 4 (pc' := 34) (L' := [(1, .int (1 : Int32)), (0, .ref 31)]) (S' := [.int (303 : Int32), .int (sF h 27 6), .ref 31]) (h' := h) rfl).trans ?_
      refine (is_ne (t := 41) rfl rfl rfl).trans (if_cg ?_ ?_)
      · refine (es_st 2 (pc' := 42) (L' := [(1, .int (1 : Int32)), (0, .ref 31)]) (S' := [.int (1 : Int32), .ref 31]) (h' := h) rfl).trans ?_
        exact es_cut rfl rfl rfl
      · refine (es_st 1 (pc' := 42) (L' := [(1, .int (1 : Int32)), (0, .ref 31)]) (S' := [.int (0 : Int32), .ref 31]) (h' := h) rfl).trans ?_
        exact es_cut rfl rfl rfl
    · refine (es_st 2 (pc' := 42) (L' := [(1, .int (1 : Int32)), (0, .ref 31)]) (S' := [.int (1 : Int32), .ref 31]) (h' := h) rfl).trans ?_
      exact es_cut rfl rfl rfl
  · refine (es_st 4 (pc' := 21) (L' := [(1, .int (0 : Int32)), (0, .ref 31)]) (S' := [.int (0 : Int32), .ref 31]) (h' := h) rfl).trans ?_
    refine (zs_ne (t := 37) rfl rfl rfl).trans (if_cg ?_ ?_)
    · refine (es_st 4 (pc' := 34) (L' := [(1, .int (0 : Int32)), (0, .ref 31)]) (S' := [.int (303 : Int32), .int (sF h 27 6), .ref 31]) (h' := h) rfl).trans ?_
      refine (is_ne (t := 41) rfl rfl rfl).trans (if_cg ?_ ?_)
      · refine (es_st 2 (pc' := 42) (L' := [(1, .int (0 : Int32)), (0, .ref 31)]) (S' := [.int (1 : Int32), .ref 31]) (h' := h) rfl).trans ?_
        exact es_cut rfl rfl rfl
      · refine (es_st 1 (pc' := 42) (L' := [(1, .int (0 : Int32)), (0, .ref 31)]) (S' := [.int (0 : Int32), .ref 31]) (h' := h) rfl).trans ?_
        exact es_cut rfl rfl rfl
    · refine (es_st 2 (pc' := 42) (L' := [(1, .int (0 : Int32)), (0, .ref 31)]) (S' := [.int (1 : Int32), .ref 31]) (h' := h) rfl).trans ?_
      exact es_cut rfl rfl rfl
theorem sX3_port_42 (d : Nat) (hd : 1 ≤ d) (h : SG) (x0_1 : Int32) (s0 : Int32) : evS true d 52 42 [(0, .ref 31), (1, .int x0_1)] [.int s0, .ref 31] h = kV (mS true (d - 1) 49 [.ref 31, .int s0, .int (2 : Int32), .int (sF h 27 7)] h) (fun h1 => kV (mS true (d - 1) 30 [.ref 27] h1) (fun h2 => if x0_1 = 0 then kI (mS true (d - 1) 45 [.ref 27, .int (305 : Int32)] h2) (fun x6 h5 => if x6 = 0 then kI (mS true (d - 1) 53 [.ref 31] h5) (fun x8 h7 => if x0_1 = 0 then if (0 : Int32) = 0 then evS true d 52 106 [(0, .ref 31), (2, .int (0 : Int32)), (3, .int x8)] [.int (1 : Int32), .ref 31] h7 else evS true d 52 106 [(0, .ref 31), (2, .int (0 : Int32)), (3, .int x8)] [.int (2 : Int32), .ref 31] h7 else evS true d 52 106 [(0, .ref 31), (2, .int (0 : Int32)), (3, .int x8)] [.int (0 : Int32), .ref 31] h7) else kI (mS true (d - 1) 53 [.ref 31] h5) (fun x10 h9 => if x0_1 = 0 then if (1 : Int32) = 0 then evS true d 52 106 [(0, .ref 31), (2, .int (1 : Int32)), (3, .int x10)] [.int (1 : Int32), .ref 31] h9 else evS true d 52 106 [(0, .ref 31), (2, .int (1 : Int32)), (3, .int x10)] [.int (2 : Int32), .ref 31] h9 else evS true d 52 106 [(0, .ref 31), (2, .int (1 : Int32)), (3, .int x10)] [.int (0 : Int32), .ref 31] h9)) else kI (mS true (d - 1) 53 [.ref 31] h2) (fun x4 h3 => if x0_1 = 0 then if (0 : Int32) = 0 then evS true d 52 106 [(0, .ref 31), (2, .int (0 : Int32)), (3, .int x4)] [.int (1 : Int32), .ref 31] h3 else evS true d 52 106 [(0, .ref 31), (2, .int (0 : Int32)), (3, .int x4)] [.int (2 : Int32), .ref 31] h3 else evS true d 52 106 [(0, .ref 31), (2, .int (0 : Int32)), (3, .int x4)] [.int (0 : Int32), .ref 31] h3))) := by
  obtain ⟨d, rfl⟩ : ∃ e, d = e + 1 := ⟨d - 1, by omega⟩
  refine (es_st 4 (pc' := 50) (L' := [(0, .ref 31), (1, .int x0_1)]) (S' := [.int (sF h 27 7), .int (2 : Int32), .int s0, .ref 31]) (h' := h) rfl).trans ?_
  refine (es_cV (b := true) (k' := 49) (pc' := 53) (as := [.ref 31, .int s0, .int (2 : Int32), .int (sF h 27 7)]) (S' := []) (L' := [(0, .ref 31), (1, .int x0_1)]) (h' := h) rfl rfl rfl rfl rfl).trans (kV_cg fun h1 => ?_)
  refine (es_st 2 (pc' := 57) (L' := [(0, .ref 31), (1, .int x0_1)]) (S' := [.ref 27]) (h' := h1) rfl).trans ?_
  refine (es_cV (b := true) (k' := 30) (pc' := 60) (as := [.ref 27]) (S' := []) (L' := [(0, .ref 31), (1, .int x0_1)]) (h' := h1) rfl rfl rfl rfl rfl).trans (kV_cg fun h2 => ?_)
  refine (es_st 1 (pc' := 61) (L' := [(0, .ref 31), (1, .int x0_1)]) (S' := [.int x0_1]) (h' := h2) rfl).trans ?_
  refine (zs_ne (t := 81) rfl rfl rfl).trans (if_cg ?_ ?_)
  · refine (es_st 3 (pc' := 71) (L' := [(0, .ref 31), (1, .int x0_1)]) (S' := [.int (305 : Int32), .ref 27]) (h' := h2) rfl).trans ?_
    refine (es_cI (b := true) (k' := 45) (pc' := 74) (as := [.ref 27, .int (305 : Int32)]) (S' := []) (L' := [(0, .ref 31), (1, .int x0_1)]) (h' := h2) rfl rfl rfl rfl rfl).trans (kI_cg fun x6 h5 => ?_)
    refine (zs_eq (t := 81) rfl rfl rfl).trans (if_cg ?_ ?_)
    · refine (es_st 3 (pc' := 84) (L' := [(2, .int (0 : Int32)), (0, .ref 31), (1, .int x0_1)]) (S' := [.ref 31]) (h' := h5) rfl).trans ?_
      refine (es_cI (b := true) (k' := 53) (pc' := 87) (as := [.ref 31]) (S' := []) (L' := [(2, .int (0 : Int32)), (0, .ref 31), (1, .int x0_1)]) (h' := h5) rfl rfl rfl rfl rfl).trans (kI_cg fun x8 h7 => ?_)
      refine (es_st 3 (pc' := 90) (L' := [(3, .int x8), (2, .int (0 : Int32)), (0, .ref 31), (1, .int x0_1)]) (S' := [.int x0_1, .ref 31]) (h' := h7) rfl).trans ?_
      refine (zs_eq (t := 97) rfl rfl rfl).trans (if_cg ?_ ?_)
      · refine (es_st 1 (pc' := 98) (L' := [(3, .int x8), (2, .int (0 : Int32)), (0, .ref 31), (1, .int x0_1)]) (S' := [.int (0 : Int32), .ref 31]) (h' := h7) rfl).trans ?_
        refine (zs_eq (t := 105) rfl rfl rfl).trans (if_cg ?_ ?_)
        · refine (es_st 1 (pc' := 106) (L' := [(3, .int x8), (2, .int (0 : Int32)), (0, .ref 31), (1, .int x0_1)]) (S' := [.int (1 : Int32), .ref 31]) (h' := h7) rfl).trans ?_
          exact es_cut rfl rfl rfl
        · refine (es_st 2 (pc' := 106) (L' := [(3, .int x8), (2, .int (0 : Int32)), (0, .ref 31), (1, .int x0_1)]) (S' := [.int (2 : Int32), .ref 31]) (h' := h7) rfl).trans ?_
          exact es_cut rfl rfl rfl
      · refine (es_st 2 (pc' := 106) (L' := [(3, .int x8), (2, .int (0 : Int32)), (0, .ref 31), (1, .int x0_1)]) (S' := [.int (0 : Int32), .ref 31]) (h' := h7) rfl).trans ?_
        exact es_cut rfl rfl rfl
    · refine (es_st 4 (pc' := 84) (L' := [(2, .int (1 : Int32)), (0, .ref 31), (1, .int x0_1)]) (S' := [.ref 31]) (h' := h5) rfl).trans ?_
      refine (es_cI (b := true) (k' := 53) (pc' := 87) (as := [.ref 31]) (S' := []) (L' := [(2, .int (1 : Int32)), (0, .ref 31), (1, .int x0_1)]) (h' := h5) rfl rfl rfl rfl rfl).trans (kI_cg fun x10 h9 => ?_)
      refine (es_st 3 (pc' := 90) (L' := [(3, .int x10), (2, .int (1 : Int32)), (0, .ref 31), (1, .int x0_1)]) (S' := [.int x0_1, .ref 31]) (h' := h9) rfl).trans ?_
      refine (zs_eq (t := 97) rfl rfl rfl).trans (if_cg ?_ ?_)
      · refine (es_st 1 (pc' := 98) (L' := [(3, .int x10), (2, .int (1 : Int32)), (0, .ref 31), (1, .int x0_1)]) (S' := [.int (1 : Int32), .ref 31]) (h' := h9) rfl).trans ?_
        refine (zs_eq (t := 105) rfl rfl rfl).trans (if_cg ?_ ?_)
        · refine (es_st 1 (pc' := 106) (L' := [(3, .int x10), (2, .int (1 : Int32)), (0, .ref 31), (1, .int x0_1)]) (S' := [.int (1 : Int32), .ref 31]) (h' := h9) rfl).trans ?_
          exact es_cut rfl rfl rfl
        · refine (es_st 2 (pc' := 106) (L' := [(3, .int x10), (2, .int (1 : Int32)), (0, .ref 31), (1, .int x0_1)]) (S' := [.int (2 : Int32), .ref 31]) (h' := h9) rfl).trans ?_
          exact es_cut rfl rfl rfl
      · refine (es_st 2 (pc' := 106) (L' := [(3, .int x10), (2, .int (1 : Int32)), (0, .ref 31), (1, .int x0_1)]) (S' := [.int (0 : Int32), .ref 31]) (h' := h9) rfl).trans ?_
        exact es_cut rfl rfl rfl
  · refine (es_st 3 (pc' := 84) (L' := [(2, .int (0 : Int32)), (0, .ref 31), (1, .int x0_1)]) (S' := [.ref 31]) (h' := h2) rfl).trans ?_
    refine (es_cI (b := true) (k' := 53) (pc' := 87) (as := [.ref 31]) (S' := []) (L' := [(2, .int (0 : Int32)), (0, .ref 31), (1, .int x0_1)]) (h' := h2) rfl rfl rfl rfl rfl).trans (kI_cg fun x4 h3 => ?_)
    refine (es_st 3 (pc' := 90) (L' := [(3, .int x4), (2, .int (0 : Int32)), (0, .ref 31), (1, .int x0_1)]) (S' := [.int x0_1, .ref 31]) (h' := h3) rfl).trans ?_
    refine (zs_eq (t := 97) rfl rfl rfl).trans (if_cg ?_ ?_)
    · refine (es_st 1 (pc' := 98) (L' := [(3, .int x4), (2, .int (0 : Int32)), (0, .ref 31), (1, .int x0_1)]) (S' := [.int (0 : Int32), .ref 31]) (h' := h3) rfl).trans ?_
      refine (zs_eq (t := 105) rfl rfl rfl).trans (if_cg ?_ ?_)
      · refine (es_st 1 (pc' := 106) (L' := [(3, .int x4), (2, .int (0 : Int32)), (0, .ref 31), (1, .int x0_1)]) (S' := [.int (1 : Int32), .ref 31]) (h' := h3) rfl).trans ?_
        exact es_cut rfl rfl rfl
      · refine (es_st 2 (pc' := 106) (L' := [(3, .int x4), (2, .int (0 : Int32)), (0, .ref 31), (1, .int x0_1)]) (S' := [.int (2 : Int32), .ref 31]) (h' := h3) rfl).trans ?_
        exact es_cut rfl rfl rfl
    · refine (es_st 2 (pc' := 106) (L' := [(3, .int x4), (2, .int (0 : Int32)), (0, .ref 31), (1, .int x0_1)]) (S' := [.int (0 : Int32), .ref 31]) (h' := h3) rfl).trans ?_
      exact es_cut rfl rfl rfl
theorem sX3_port_106 (d : Nat) (hd : 1 ≤ d) (h : SG) (x0_2 : Int32) (x0_3 : Int32) (s0 : Int32) : evS true d 52 106 [(0, .ref 31), (2, .int x0_2), (3, .int x0_3)] [.int s0, .ref 31] h = kI (mS true (d - 1) 55 [.ref 31, .int s0, .int x0_3] h) (fun x2 h1 => if x0_2 = 0 then some (.inl none, h1) else kV (mS true (d - 1) 56 [.ref 31, .int x2] h1) (fun h3 => some (.inl none, h3))) := by
  obtain ⟨d, rfl⟩ : ∃ e, d = e + 1 := ⟨d - 1, by omega⟩
  refine (es_st 1 (pc' := 107) (L' := [(0, .ref 31), (2, .int x0_2), (3, .int x0_3)]) (S' := [.int x0_3, .int s0, .ref 31]) (h' := h) rfl).trans ?_
  refine (es_cI (b := true) (k' := 55) (pc' := 110) (as := [.ref 31, .int s0, .int x0_3]) (S' := []) (L' := [(0, .ref 31), (2, .int x0_2), (3, .int x0_3)]) (h' := h) rfl rfl rfl rfl rfl).trans (kI_cg fun x2 h1 => ?_)
  refine (es_st 2 (pc' := 113) (L' := [(4, .int x2), (0, .ref 31), (2, .int x0_2), (3, .int x0_3)]) (S' := [.int x0_2]) (h' := h1) rfl).trans ?_
  refine (zs_eq (t := 122) rfl rfl rfl).trans (if_cg ?_ ?_)
  · exact es_fin rfl rfl rfl
  · refine (es_st 2 (pc' := 119) (L' := [(4, .int x2), (0, .ref 31), (2, .int x0_2), (3, .int x0_3)]) (S' := [.int x2, .ref 31]) (h' := h1) rfl).trans ?_
    refine (es_cV (b := true) (k' := 56) (pc' := 122) (as := [.ref 31, .int x2]) (S' := []) (L' := [(4, .int x2), (0, .ref 31), (2, .int x0_2), (3, .int x0_3)]) (h' := h1) rfl rfl rfl rfl rfl).trans (kV_cg fun h3 => ?_)
    exact es_fin rfl rfl rfl
theorem sX3_range_0 (d : Nat) (hd : 1 ≤ d) (h : SG) : mS true d 53 [.ref 31] h = kI (mS true (d - 1) 45 [.ref 27, .int (91 : Int32)] h) (fun x2 h1 => if x2 = 0 then some (.inl (some (.int (1 : Int32))), h1) else kI (mS true (d - 1) 54 [.ref 31] h1) (fun x4 h3 => kV (mS true (d - 1) 44 [.ref 27, .int (58 : Int32)] h3) (fun h5 => kI (mS true (d - 1) 54 [.ref 31] h5) (fun x7 h6 => kV (mS true (d - 1) 44 [.ref 27, .int (93 : Int32)] h6) (fun h8 => if (sF h8 31 2) = 0 then kV (mS true (d - 1) 49 [.ref 31, .int (1 : Int32), .int (30 : Int32), .int (sF h 27 7)] h8) (fun h9 => some (.inl (some (.int (x4 + (1 : Int32)))), h9)) else if (64 : Int32) ≤ x4 then kV (mS true (d - 1) 49 [.ref 31, .int (0 : Int32), .int (30 : Int32), .int (sF h 27 7)] h8) (fun h10 => some (.inl (some (.int (x4 + (1 : Int32)))), h10)) else if x7 = 0 then kV (mS true (d - 1) 49 [.ref 31, .int (1 : Int32), .int (30 : Int32), .int (sF h 27 7)] h8) (fun h12 => some (.inl (some (.int (x4 + (1 : Int32)))), h12)) else kV (mS true (d - 1) 49 [.ref 31, .int (0 : Int32), .int (30 : Int32), .int (sF h 27 7)] h8) (fun h11 => some (.inl (some (.int (x4 + (1 : Int32)))), h11))))))) := by
  obtain ⟨d, rfl⟩ : ∃ e, d = e + 1 := ⟨d - 1, by omega⟩
  show evS true (d + 1) 53 0 [(0, .ref 31)] [] h = _
  refine (es_st 7 (pc' := 14) (L' := [(1, .int (sF h 27 7)), (0, .ref 31)]) (S' := [.int (91 : Int32), .ref 27]) (h' := h) rfl).trans ?_
  refine (es_cI (b := true) (k' := 45) (pc' := 17) (as := [.ref 27, .int (91 : Int32)]) (S' := []) (L' := [(1, .int (sF h 27 7)), (0, .ref 31)]) (h' := h) rfl rfl rfl rfl rfl).trans (kI_cg fun x2 h1 => ?_)
  refine (zs_ne (t := 22) rfl rfl rfl).trans (if_cg ?_ ?_)
  · refine (es_st 1 (pc' := 21) (L' := [(1, .int (sF h 27 7)), (0, .ref 31)]) (S' := [.int (1 : Int32)]) (h' := h1) rfl).trans ?_
    exact es_fin rfl rfl rfl
  · refine (es_st 1 (pc' := 23) (L' := [(1, .int (sF h 27 7)), (0, .ref 31)]) (S' := [.ref 31]) (h' := h1) rfl).trans ?_
    refine (es_cI (b := true) (k' := 54) (pc' := 26) (as := [.ref 31]) (S' := []) (L' := [(1, .int (sF h 27 7)), (0, .ref 31)]) (h' := h1) rfl rfl rfl rfl rfl).trans (kI_cg fun x4 h3 => ?_)
    refine (es_st 4 (pc' := 33) (L' := [(2, .int x4), (1, .int (sF h 27 7)), (0, .ref 31)]) (S' := [.int (58 : Int32), .ref 27]) (h' := h3) rfl).trans ?_
    refine (es_cV (b := true) (k' := 44) (pc' := 36) (as := [.ref 27, .int (58 : Int32)]) (S' := []) (L' := [(2, .int x4), (1, .int (sF h 27 7)), (0, .ref 31)]) (h' := h3) rfl rfl rfl rfl rfl).trans (kV_cg fun h5 => ?_)
    refine (es_st 1 (pc' := 37) (L' := [(2, .int x4), (1, .int (sF h 27 7)), (0, .ref 31)]) (S' := [.ref 31]) (h' := h5) rfl).trans ?_
    refine (es_cI (b := true) (k' := 54) (pc' := 40) (as := [.ref 31]) (S' := []) (L' := [(2, .int x4), (1, .int (sF h 27 7)), (0, .ref 31)]) (h' := h5) rfl rfl rfl rfl rfl).trans (kI_cg fun x7 h6 => ?_)
    refine (es_st 4 (pc' := 47) (L' := [(3, .int x7), (2, .int x4), (1, .int (sF h 27 7)), (0, .ref 31)]) (S' := [.int (93 : Int32), .ref 27]) (h' := h6) rfl).trans ?_
    refine (es_cV (b := true) (k' := 44) (pc' := 50) (as := [.ref 27, .int (93 : Int32)]) (S' := []) (L' := [(3, .int x7), (2, .int x4), (1, .int (sF h 27 7)), (0, .ref 31)]) (h' := h6) rfl rfl rfl rfl rfl).trans (kV_cg fun h8 => ?_)
    refine (es_st 3 (pc' := 55) (L' := [(3, .int x7), (2, .int x4), (1, .int (sF h 27 7)), (0, .ref 31)]) (S' := [.int (sF h8 31 2), .ref 31]) (h' := h8) rfl).trans ?_
    refine (zs_eq (t := 68) rfl rfl rfl).trans (if_cg ?_ ?_)
    · refine (es_st 4 (pc' := 76) (L' := [(3, .int x7), (2, .int x4), (1, .int (sF h 27 7)), (0, .ref 31)]) (S' := [.int (sF h 27 7), .int (30 : Int32), .int (1 : Int32), .ref 31]) (h' := h8) rfl).trans ?_
      refine (es_cV (b := true) (k' := 49) (pc' := 79) (as := [.ref 31, .int (1 : Int32), .int (30 : Int32), .int (sF h 27 7)]) (S' := []) (L' := [(3, .int x7), (2, .int x4), (1, .int (sF h 27 7)), (0, .ref 31)]) (h' := h8) rfl rfl rfl rfl rfl).trans (kV_cg fun h9 => ?_)
      refine (es_st 3 (pc' := 82) (L' := [(3, .int x7), (2, .int x4), (1, .int (sF h 27 7)), (0, .ref 31)]) (S' := [.int (x4 + (1 : Int32))]) (h' := h9) rfl).trans ?_
      exact es_fin rfl rfl rfl
    · refine (es_st 2 (pc' := 61) (L' := [(3, .int x7), (2, .int x4), (1, .int (sF h 27 7)), (0, .ref 31)]) (S' := [.int (64 : Int32), .int x4, .ref 31]) (h' := h8) rfl).trans ?_
      refine (is_ge (t := 72) rfl rfl rfl).trans (if_cg ?_ ?_)
      · refine (es_st 3 (pc' := 76) (L' := [(3, .int x7), (2, .int x4), (1, .int (sF h 27 7)), (0, .ref 31)]) (S' := [.int (sF h 27 7), .int (30 : Int32), .int (0 : Int32), .ref 31]) (h' := h8) rfl).trans ?_
        refine (es_cV (b := true) (k' := 49) (pc' := 79) (as := [.ref 31, .int (0 : Int32), .int (30 : Int32), .int (sF h 27 7)]) (S' := []) (L' := [(3, .int x7), (2, .int x4), (1, .int (sF h 27 7)), (0, .ref 31)]) (h' := h8) rfl rfl rfl rfl rfl).trans (kV_cg fun h10 => ?_)
        refine (es_st 3 (pc' := 82) (L' := [(3, .int x7), (2, .int x4), (1, .int (sF h 27 7)), (0, .ref 31)]) (S' := [.int (x4 + (1 : Int32))]) (h' := h10) rfl).trans ?_
        exact es_fin rfl rfl rfl
      · refine (es_st 1 (pc' := 65) (L' := [(3, .int x7), (2, .int x4), (1, .int (sF h 27 7)), (0, .ref 31)]) (S' := [.int x7, .ref 31]) (h' := h8) rfl).trans ?_
        refine (zs_ne (t := 72) rfl rfl rfl).trans (if_cg ?_ ?_)
        · refine (es_st 4 (pc' := 76) (L' := [(3, .int x7), (2, .int x4), (1, .int (sF h 27 7)), (0, .ref 31)]) (S' := [.int (sF h 27 7), .int (30 : Int32), .int (1 : Int32), .ref 31]) (h' := h8) rfl).trans ?_
          refine (es_cV (b := true) (k' := 49) (pc' := 79) (as := [.ref 31, .int (1 : Int32), .int (30 : Int32), .int (sF h 27 7)]) (S' := []) (L' := [(3, .int x7), (2, .int x4), (1, .int (sF h 27 7)), (0, .ref 31)]) (h' := h8) rfl rfl rfl rfl rfl).trans (kV_cg fun h12 => ?_)
          refine (es_st 3 (pc' := 82) (L' := [(3, .int x7), (2, .int x4), (1, .int (sF h 27 7)), (0, .ref 31)]) (S' := [.int (x4 + (1 : Int32))]) (h' := h12) rfl).trans ?_
          exact es_fin rfl rfl rfl
        · refine (es_st 3 (pc' := 76) (L' := [(3, .int x7), (2, .int x4), (1, .int (sF h 27 7)), (0, .ref 31)]) (S' := [.int (sF h 27 7), .int (30 : Int32), .int (0 : Int32), .ref 31]) (h' := h8) rfl).trans ?_
          refine (es_cV (b := true) (k' := 49) (pc' := 79) (as := [.ref 31, .int (0 : Int32), .int (30 : Int32), .int (sF h 27 7)]) (S' := []) (L' := [(3, .int x7), (2, .int x4), (1, .int (sF h 27 7)), (0, .ref 31)]) (h' := h8) rfl rfl rfl rfl rfl).trans (kV_cg fun h11 => ?_)
          refine (es_st 3 (pc' := 82) (L' := [(3, .int x7), (2, .int x4), (1, .int (sF h 27 7)), (0, .ref 31)]) (S' := [.int (x4 + (1 : Int32))]) (h' := h11) rfl).trans ?_
          exact es_fin rfl rfl rfl
theorem sX3_plain_0 (d : Nat) (hd : 1 ≤ d) (h : SG) : mS true d 54 [.ref 31] h = if (sF h 27 6) = (258 : Int32) then evS true d 54 19 [(0, .ref 31)] [.int (1 : Int32), .ref 31] h else evS true d 54 19 [(0, .ref 31)] [.int (0 : Int32), .ref 31] h := by
  obtain ⟨d, rfl⟩ : ∃ e, d = e + 1 := ⟨d - 1, by omega⟩
  show evS true (d + 1) 54 0 [(0, .ref 31)] [] h = _
  refine (es_st 5 (pc' := 11) (L' := [(0, .ref 31)]) (S' := [.int (258 : Int32), .int (sF h 27 6), .ref 31]) (h' := h) rfl).trans ?_
  refine (is_ne (t := 18) rfl rfl rfl).trans (if_cg ?_ ?_)
  · refine (es_st 2 (pc' := 19) (L' := [(0, .ref 31)]) (S' := [.int (1 : Int32), .ref 31]) (h' := h) rfl).trans ?_
    exact es_cut rfl rfl rfl
  · refine (es_st 1 (pc' := 19) (L' := [(0, .ref 31)]) (S' := [.int (0 : Int32), .ref 31]) (h' := h) rfl).trans ?_
    exact es_cut rfl rfl rfl
theorem sX3_plain_19 (d : Nat) (hd : 1 ≤ d) (h : SG) (s0 : Int32) : evS true d 54 19 [(0, .ref 31)] [.int s0, .ref 31] h = kV (mS true (d - 1) 49 [.ref 31, .int s0, .int (2 : Int32), .int (sF h 27 7)] h) (fun h1 => kV (mS true (d - 1) 30 [.ref 27] h1) (fun h2 => some (.inl (some (.int (sJ h1 27 9).toInt32)), h2))) := by
  obtain ⟨d, rfl⟩ : ∃ e, d = e + 1 := ⟨d - 1, by omega⟩
  refine (es_st 4 (pc' := 27) (L' := [(0, .ref 31)]) (S' := [.int (sF h 27 7), .int (2 : Int32), .int s0, .ref 31]) (h' := h) rfl).trans ?_
  refine (es_cV (b := true) (k' := 49) (pc' := 30) (as := [.ref 31, .int s0, .int (2 : Int32), .int (sF h 27 7)]) (S' := []) (L' := [(0, .ref 31)]) (h' := h) rfl rfl rfl rfl rfl).trans (kV_cg fun h1 => ?_)
  refine (es_st 7 (pc' := 43) (L' := [(1, .int (sJ h1 27 9).toInt32), (0, .ref 31)]) (S' := [.ref 27]) (h' := h1) rfl).trans ?_
  refine (es_cV (b := true) (k' := 30) (pc' := 46) (as := [.ref 27]) (S' := []) (L' := [(1, .int (sJ h1 27 9).toInt32), (0, .ref 31)]) (h' := h1) rfl rfl rfl rfl rfl).trans (kV_cg fun h2 => ?_)
  refine (es_st 1 (pc' := 47) (L' := [(1, .int (sJ h1 27 9).toInt32), (0, .ref 31)]) (S' := [.int (sJ h1 27 9).toInt32]) (h' := h2) rfl).trans ?_
  exact es_fin rfl rfl rfl
theorem sX3_declare_0 (d : Nat) (hd : 4 ≤ d) (h : SG) (x0_1 : Int32) (x0_2 : Int32) : mS true d 55 [.ref 31, .int x0_1, .int x0_2] h = if (sF h 27 6) = (257 : Int32) then evS true d 55 19 [(0, .ref 31), (1, .int x0_1), (2, .int x0_2)] [.int (1 : Int32), .ref 31] h else evS true d 55 19 [(0, .ref 31), (1, .int x0_1), (2, .int x0_2)] [.int (0 : Int32), .ref 31] h := by
  obtain ⟨d, rfl⟩ : ∃ e, d = e + 4 := ⟨d - 4, by omega⟩
  show evS true (d + 4) 55 0 [(0, .ref 31), (1, .int x0_1), (2, .int x0_2)] [] h = _
  refine (es_st 5 (pc' := 11) (L' := [(0, .ref 31), (1, .int x0_1), (2, .int x0_2)]) (S' := [.int (257 : Int32), .int (sF h 27 6), .ref 31]) (h' := h) rfl).trans ?_
  refine (is_ne (t := 18) rfl rfl rfl).trans (if_cg ?_ ?_)
  · refine (es_st 2 (pc' := 19) (L' := [(0, .ref 31), (1, .int x0_1), (2, .int x0_2)]) (S' := [.int (1 : Int32), .ref 31]) (h' := h) rfl).trans ?_
    exact es_cut rfl rfl rfl
  · refine (es_st 1 (pc' := 19) (L' := [(0, .ref 31), (1, .int x0_1), (2, .int x0_2)]) (S' := [.int (0 : Int32), .ref 31]) (h' := h) rfl).trans ?_
    exact es_cut rfl rfl rfl
theorem sX3_declare_19 (d : Nat) (hd : 4 ≤ d) (h : SG) (x0_1 : Int32) (x0_2 : Int32) (s0 : Int32) : evS true d 55 19 [(0, .ref 31), (1, .int x0_1), (2, .int x0_2)] [.int s0, .ref 31] h = kV (mS true (d - 1) 49 [.ref 31, .int s0, .int (2 : Int32), .int (sF h 27 7)] h) (fun h1 => if (sF h1 31 2) = 0 then kV (mS true (d - 1) 30 [.ref 27] h1) (fun h2 => some (.inl (some (.int ((Int32.ofNat (sW h1 94).length) / (8 : Int32)))), h2)) else kI (mS true (d - 1) 133 [.ref 93, .int (sF h1 31 3), .ref 30, .int (sF h1 27 7), .int ((sF h1 27 8) - (sF h1 27 7))] h1) (fun x4 h3 => if x4 = (-1 : Int32) then evS true d 55 104 [(0, .ref 31), (1, .int x0_1), (2, .int x0_2), (3, .int ((Int32.ofNat (sW h1 94).length) / (8 : Int32))), (4, .int (sF h1 27 7)), (5, .int ((sF h1 27 8) - (sF h1 27 7)))] [.int (1 : Int32), .ref 31] h3 else evS true d 55 104 [(0, .ref 31), (1, .int x0_1), (2, .int x0_2), (3, .int ((Int32.ofNat (sW h1 94).length) / (8 : Int32))), (4, .int (sF h1 27 7)), (5, .int ((sF h1 27 8) - (sF h1 27 7)))] [.int (0 : Int32), .ref 31] h3)) := by
  obtain ⟨d, rfl⟩ : ∃ e, d = e + 4 := ⟨d - 4, by omega⟩
  refine (es_st 4 (pc' := 27) (L' := [(0, .ref 31), (1, .int x0_1), (2, .int x0_2)]) (S' := [.int (sF h 27 7), .int (2 : Int32), .int s0, .ref 31]) (h' := h) rfl).trans ?_
  refine (es_cV (b := true) (k' := 49) (pc' := 30) (as := [.ref 31, .int s0, .int (2 : Int32), .int (sF h 27 7)]) (S' := []) (L' := [(0, .ref 31), (1, .int x0_1), (2, .int x0_2)]) (h' := h) rfl rfl rfl rfl rfl).trans (kV_cg fun h1 => ?_)
  refine (es_st 19 (pc' := 69) (L' := [(5, .int ((sF h1 27 8) - (sF h1 27 7))), (4, .int (sF h1 27 7)), (3, .int ((Int32.ofNat (sW h1 94).length) / (8 : Int32))), (0, .ref 31), (1, .int x0_1), (2, .int x0_2)]) (S' := [.int (sF h1 31 2)]) (h' := h1) rfl).trans ?_
  refine (zs_eq (t := 219) rfl rfl rfl).trans (if_cg ?_ ?_)
  · refine (es_st 2 (pc' := 223) (L' := [(5, .int ((sF h1 27 8) - (sF h1 27 7))), (4, .int (sF h1 27 7)), (3, .int ((Int32.ofNat (sW h1 94).length) / (8 : Int32))), (0, .ref 31), (1, .int x0_1), (2, .int x0_2)]) (S' := [.ref 27]) (h' := h1) rfl).trans ?_
    refine (es_cV (b := true) (k' := 30) (pc' := 226) (as := [.ref 27]) (S' := []) (L' := [(5, .int ((sF h1 27 8) - (sF h1 27 7))), (4, .int (sF h1 27 7)), (3, .int ((Int32.ofNat (sW h1 94).length) / (8 : Int32))), (0, .ref 31), (1, .int x0_1), (2, .int x0_2)]) (h' := h1) rfl rfl rfl rfl rfl).trans (kV_cg fun h2 => ?_)
    refine (es_st 1 (pc' := 227) (L' := [(5, .int ((sF h1 27 8) - (sF h1 27 7))), (4, .int (sF h1 27 7)), (3, .int ((Int32.ofNat (sW h1 94).length) / (8 : Int32))), (0, .ref 31), (1, .int x0_1), (2, .int x0_2)]) (S' := [.int ((Int32.ofNat (sW h1 94).length) / (8 : Int32))]) (h' := h2) rfl).trans ?_
    exact es_fin rfl rfl rfl
  · refine (es_st 10 (pc' := 92) (L' := [(5, .int ((sF h1 27 8) - (sF h1 27 7))), (4, .int (sF h1 27 7)), (3, .int ((Int32.ofNat (sW h1 94).length) / (8 : Int32))), (0, .ref 31), (1, .int x0_1), (2, .int x0_2)]) (S' := [.int ((sF h1 27 8) - (sF h1 27 7)), .int (sF h1 27 7), .ref 30, .int (sF h1 31 3), .ref 93, .ref 31]) (h' := h1) rfl).trans ?_
    refine (es_cI (b := true) (k' := 133) (pc' := 95) (as := [.ref 93, .int (sF h1 31 3), .ref 30, .int (sF h1 27 7), .int ((sF h1 27 8) - (sF h1 27 7))]) (S' := [.ref 31]) (L' := [(5, .int ((sF h1 27 8) - (sF h1 27 7))), (4, .int (sF h1 27 7)), (3, .int ((Int32.ofNat (sW h1 94).length) / (8 : Int32))), (0, .ref 31), (1, .int x0_1), (2, .int x0_2)]) (h' := h1) rfl rfl rfl rfl rfl).trans (kI_cg fun x4 h3 => ?_)
    refine (es_st 1 (pc' := 96) (L' := [(5, .int ((sF h1 27 8) - (sF h1 27 7))), (4, .int (sF h1 27 7)), (3, .int ((Int32.ofNat (sW h1 94).length) / (8 : Int32))), (0, .ref 31), (1, .int x0_1), (2, .int x0_2)]) (S' := [.int (-1 : Int32), .int x4, .ref 31]) (h' := h3) rfl).trans ?_
    refine (is_ne (t := 103) rfl rfl rfl).trans (if_cg ?_ ?_)
    · refine (es_st 2 (pc' := 104) (L' := [(5, .int ((sF h1 27 8) - (sF h1 27 7))), (4, .int (sF h1 27 7)), (3, .int ((Int32.ofNat (sW h1 94).length) / (8 : Int32))), (0, .ref 31), (1, .int x0_1), (2, .int x0_2)]) (S' := [.int (1 : Int32), .ref 31]) (h' := h3) rfl).trans ?_
      exact es_cut rfl rfl rfl
    · refine (es_st 1 (pc' := 104) (L' := [(5, .int ((sF h1 27 8) - (sF h1 27 7))), (4, .int (sF h1 27 7)), (3, .int ((Int32.ofNat (sW h1 94).length) / (8 : Int32))), (0, .ref 31), (1, .int x0_1), (2, .int x0_2)]) (S' := [.int (0 : Int32), .ref 31]) (h' := h3) rfl).trans ?_
      exact es_cut rfl rfl rfl
theorem sX3_declare_104 (d : Nat) (hd : 4 ≤ d) (h : SG) (x0_1 : Int32) (x0_2 : Int32) (x0_3 : Int32) (x0_4 : Int32) (x0_5 : Int32) (s0 : Int32) : evS true d 55 104 [(0, .ref 31), (1, .int x0_1), (2, .int x0_2), (3, .int x0_3), (4, .int x0_4), (5, .int x0_5)] [.int s0, .ref 31] h = kV (mS true (d - 1) 49 [.ref 31, .int s0, .int (21 : Int32), .int x0_4] h) (fun h1 => ob (rAdd h1 94 x0_4) (fun q2 => ob (rAdd q2.2 94 x0_5) (fun q3 => ob (rAdd q3.2 94 x0_1) (fun q4 => ob (rAdd q4.2 94 x0_2) (fun q5 => ob (rAdd q5.2 94 (0 : Int32)) (fun q6 => ob (rAdd q6.2 94 (0 : Int32)) (fun q7 => ob (rAdd q7.2 94 x0_4) (fun q8 => ob (rAdd q8.2 94 (0 : Int32)) (fun q9 => ob (rAdd q9.2 38 (0 : Int32)) (fun q10 => kV (mS true (d - 1) 30 [.ref 27] q10.2) (fun h11 => some (.inl (some (.int x0_3)), h11)))))))))))) := by
  obtain ⟨d, rfl⟩ : ∃ e, d = e + 4 := ⟨d - 4, by omega⟩
  refine (es_st 2 (pc' := 108) (L' := [(0, .ref 31), (1, .int x0_1), (2, .int x0_2), (3, .int x0_3), (4, .int x0_4), (5, .int x0_5)]) (S' := [.int x0_4, .int (21 : Int32), .int s0, .ref 31]) (h' := h) rfl).trans ?_
  refine (es_cV (b := true) (k' := 49) (pc' := 111) (as := [.ref 31, .int s0, .int (21 : Int32), .int x0_4]) (S' := []) (L' := [(0, .ref 31), (1, .int x0_1), (2, .int x0_2), (3, .int x0_3), (4, .int x0_4), (5, .int x0_5)]) (h' := h) rfl rfl rfl rfl rfl).trans (kV_cg fun h1 => ?_)
  refine (es_st 4 (pc' := 120) (L' := [(0, .ref 31), (1, .int x0_1), (2, .int x0_2), (3, .int x0_3), (4, .int x0_4), (5, .int x0_5)]) (S' := [.int x0_4, .ref 94]) (h' := h1) rfl).trans ?_
  refine (es_ob (o := rAdd h1 94 x0_4) (pc' := 123) (L' := [(0, .ref 31), (1, .int x0_1), (2, .int x0_2), (3, .int x0_3), (4, .int x0_4), (5, .int x0_5)]) (S' := fun z => [.int z.1]) (h' := fun z => z.2) rfl rfl rfl).trans (ob_cg fun q2 => ?_)
  refine (es_st 5 (pc' := 133) (L' := [(0, .ref 31), (1, .int x0_1), (2, .int x0_2), (3, .int x0_3), (4, .int x0_4), (5, .int x0_5)]) (S' := [.int x0_5, .ref 94]) (h' := q2.2) rfl).trans ?_
  refine (es_ob (o := rAdd q2.2 94 x0_5) (pc' := 136) (L' := [(0, .ref 31), (1, .int x0_1), (2, .int x0_2), (3, .int x0_3), (4, .int x0_4), (5, .int x0_5)]) (S' := fun z => [.int z.1]) (h' := fun z => z.2) rfl rfl rfl).trans (ob_cg fun q3 => ?_)
  refine (es_st 5 (pc' := 145) (L' := [(0, .ref 31), (1, .int x0_1), (2, .int x0_2), (3, .int x0_3), (4, .int x0_4), (5, .int x0_5)]) (S' := [.int x0_1, .ref 94]) (h' := q3.2) rfl).trans ?_
  refine (es_ob (o := rAdd q3.2 94 x0_1) (pc' := 148) (L' := [(0, .ref 31), (1, .int x0_1), (2, .int x0_2), (3, .int x0_3), (4, .int x0_4), (5, .int x0_5)]) (S' := fun z => [.int z.1]) (h' := fun z => z.2) rfl rfl rfl).trans (ob_cg fun q4 => ?_)
  refine (es_st 5 (pc' := 157) (L' := [(0, .ref 31), (1, .int x0_1), (2, .int x0_2), (3, .int x0_3), (4, .int x0_4), (5, .int x0_5)]) (S' := [.int x0_2, .ref 94]) (h' := q4.2) rfl).trans ?_
  refine (es_ob (o := rAdd q4.2 94 x0_2) (pc' := 160) (L' := [(0, .ref 31), (1, .int x0_1), (2, .int x0_2), (3, .int x0_3), (4, .int x0_4), (5, .int x0_5)]) (S' := fun z => [.int z.1]) (h' := fun z => z.2) rfl rfl rfl).trans (ob_cg fun q5 => ?_)
  refine (es_st 5 (pc' := 169) (L' := [(0, .ref 31), (1, .int x0_1), (2, .int x0_2), (3, .int x0_3), (4, .int x0_4), (5, .int x0_5)]) (S' := [.int (0 : Int32), .ref 94]) (h' := q5.2) rfl).trans ?_
  refine (es_ob (o := rAdd q5.2 94 (0 : Int32)) (pc' := 172) (L' := [(0, .ref 31), (1, .int x0_1), (2, .int x0_2), (3, .int x0_3), (4, .int x0_4), (5, .int x0_5)]) (S' := fun z => [.int z.1]) (h' := fun z => z.2) rfl rfl rfl).trans (ob_cg fun q6 => ?_)
  refine (es_st 5 (pc' := 181) (L' := [(0, .ref 31), (1, .int x0_1), (2, .int x0_2), (3, .int x0_3), (4, .int x0_4), (5, .int x0_5)]) (S' := [.int (0 : Int32), .ref 94]) (h' := q6.2) rfl).trans ?_
  refine (es_ob (o := rAdd q6.2 94 (0 : Int32)) (pc' := 184) (L' := [(0, .ref 31), (1, .int x0_1), (2, .int x0_2), (3, .int x0_3), (4, .int x0_4), (5, .int x0_5)]) (S' := fun z => [.int z.1]) (h' := fun z => z.2) rfl rfl rfl).trans (ob_cg fun q7 => ?_)
  refine (es_st 5 (pc' := 194) (L' := [(0, .ref 31), (1, .int x0_1), (2, .int x0_2), (3, .int x0_3), (4, .int x0_4), (5, .int x0_5)]) (S' := [.int x0_4, .ref 94]) (h' := q7.2) rfl).trans ?_
  refine (es_ob (o := rAdd q7.2 94 x0_4) (pc' := 197) (L' := [(0, .ref 31), (1, .int x0_1), (2, .int x0_2), (3, .int x0_3), (4, .int x0_4), (5, .int x0_5)]) (S' := fun z => [.int z.1]) (h' := fun z => z.2) rfl rfl rfl).trans (ob_cg fun q8 => ?_)
  refine (es_st 5 (pc' := 206) (L' := [(0, .ref 31), (1, .int x0_1), (2, .int x0_2), (3, .int x0_3), (4, .int x0_4), (5, .int x0_5)]) (S' := [.int (0 : Int32), .ref 94]) (h' := q8.2) rfl).trans ?_
  refine (es_ob (o := rAdd q8.2 94 (0 : Int32)) (pc' := 209) (L' := [(0, .ref 31), (1, .int x0_1), (2, .int x0_2), (3, .int x0_3), (4, .int x0_4), (5, .int x0_5)]) (S' := fun z => [.int z.1]) (h' := fun z => z.2) rfl rfl rfl).trans (ob_cg fun q9 => ?_)
  refine (es_st 4 (pc' := 215) (L' := [(0, .ref 31), (1, .int x0_1), (2, .int x0_2), (3, .int x0_3), (4, .int x0_4), (5, .int x0_5)]) (S' := [.int (0 : Int32), .ref 38]) (h' := q9.2) rfl).trans ?_
  refine (es_ob (o := rAdd q9.2 38 (0 : Int32)) (pc' := 218) (L' := [(0, .ref 31), (1, .int x0_1), (2, .int x0_2), (3, .int x0_3), (4, .int x0_4), (5, .int x0_5)]) (S' := fun z => [.int z.1]) (h' := fun z => z.2) rfl rfl rfl).trans (ob_cg fun q10 => ?_)
  refine (es_st 3 (pc' := 223) (L' := [(0, .ref 31), (1, .int x0_1), (2, .int x0_2), (3, .int x0_3), (4, .int x0_4), (5, .int x0_5)]) (S' := [.ref 27]) (h' := q10.2) rfl).trans ?_
  refine (es_cV (b := true) (k' := 30) (pc' := 226) (as := [.ref 27]) (S' := []) (L' := [(0, .ref 31), (1, .int x0_1), (2, .int x0_2), (3, .int x0_3), (4, .int x0_4), (5, .int x0_5)]) (h' := q10.2) rfl rfl rfl rfl rfl).trans (kV_cg fun h11 => ?_)
  refine (es_st 1 (pc' := 227) (L' := [(0, .ref 31), (1, .int x0_1), (2, .int x0_2), (3, .int x0_3), (4, .int x0_4), (5, .int x0_5)]) (S' := [.int x0_3]) (h' := h11) rfl).trans ?_
  exact es_fin rfl rfl rfl
theorem sX3_beginning_0 (d : Nat) (hd : 4 ≤ d) (h : SG) (x0_1 : Int32) : mS true d 56 [.ref 31, .int x0_1] h = kI (mS true (d - 1) 45 [.ref 27, .int (61 : Int32)] h) (fun x2 h1 => if x2 = 0 then some (.inl none, h1) else if (sF h1 27 6) = (259 : Int32) then evS true d 56 32 [(0, .ref 31), (1, .int x0_1)] [.int (1 : Int32), .ref 31] h1 else evS true d 56 32 [(0, .ref 31), (1, .int x0_1)] [.int (0 : Int32), .ref 31] h1) := by
  obtain ⟨d, rfl⟩ : ∃ e, d = e + 4 := ⟨d - 4, by omega⟩
  show evS true (d + 4) 56 0 [(0, .ref 31), (1, .int x0_1)] [] h = _
  refine (es_st 3 (pc' := 6) (L' := [(0, .ref 31), (1, .int x0_1)]) (S' := [.int (61 : Int32), .ref 27]) (h' := h) rfl).trans ?_
  refine (es_cI (b := true) (k' := 45) (pc' := 9) (as := [.ref 27, .int (61 : Int32)]) (S' := []) (L' := [(0, .ref 31), (1, .int x0_1)]) (h' := h) rfl rfl rfl rfl rfl).trans (kI_cg fun x2 h1 => ?_)
  refine (zs_ne (t := 13) rfl rfl rfl).trans (if_cg ?_ ?_)
  · exact es_fin rfl rfl rfl
  · refine (es_st 5 (pc' := 24) (L' := [(0, .ref 31), (1, .int x0_1)]) (S' := [.int (259 : Int32), .int (sF h1 27 6), .ref 31]) (h' := h1) rfl).trans ?_
    refine (is_ne (t := 31) rfl rfl rfl).trans (if_cg ?_ ?_)
    · refine (es_st 2 (pc' := 32) (L' := [(0, .ref 31), (1, .int x0_1)]) (S' := [.int (1 : Int32), .ref 31]) (h' := h1) rfl).trans ?_
      exact es_cut rfl rfl rfl
    · refine (es_st 1 (pc' := 32) (L' := [(0, .ref 31), (1, .int x0_1)]) (S' := [.int (0 : Int32), .ref 31]) (h' := h1) rfl).trans ?_
      exact es_cut rfl rfl rfl
theorem sX3_beginning_32 (d : Nat) (hd : 4 ≤ d) (h : SG) (x0_1 : Int32) (s0 : Int32) : evS true d 56 32 [(0, .ref 31), (1, .int x0_1)] [.int s0, .ref 31] h = kV (mS true (d - 1) 49 [.ref 31, .int s0, .int (2 : Int32), .int (sF h 27 7)] h) (fun h1 => if (sF h1 31 2) = 0 then kV (mS true (d - 1) 30 [.ref 27] h1) (fun h2 => some (.inl none, h2)) else kI (mS true (d - 1) 137 [.ref 93, .int x0_1] h1) (fun x4 h3 => if (sF h1 27 10) = x4 then evS true d 56 74 [(0, .ref 31), (1, .int x0_1)] [.int (1 : Int32), .ref 31] h3 else evS true d 56 74 [(0, .ref 31), (1, .int x0_1)] [.int (0 : Int32), .ref 31] h3)) := by
  obtain ⟨d, rfl⟩ : ∃ e, d = e + 4 := ⟨d - 4, by omega⟩
  refine (es_st 4 (pc' := 40) (L' := [(0, .ref 31), (1, .int x0_1)]) (S' := [.int (sF h 27 7), .int (2 : Int32), .int s0, .ref 31]) (h' := h) rfl).trans ?_
  refine (es_cV (b := true) (k' := 49) (pc' := 43) (as := [.ref 31, .int s0, .int (2 : Int32), .int (sF h 27 7)]) (S' := []) (L' := [(0, .ref 31), (1, .int x0_1)]) (h' := h) rfl rfl rfl rfl rfl).trans (kV_cg fun h1 => ?_)
  refine (es_st 2 (pc' := 47) (L' := [(0, .ref 31), (1, .int x0_1)]) (S' := [.int (sF h1 31 2)]) (h' := h1) rfl).trans ?_
  refine (zs_eq (t := 137) rfl rfl rfl).trans (if_cg ?_ ?_)
  · refine (es_st 2 (pc' := 141) (L' := [(0, .ref 31), (1, .int x0_1)]) (S' := [.ref 27]) (h' := h1) rfl).trans ?_
    refine (es_cV (b := true) (k' := 30) (pc' := 144) (as := [.ref 27]) (S' := []) (L' := [(0, .ref 31), (1, .int x0_1)]) (h' := h1) rfl rfl rfl rfl rfl).trans (kV_cg fun h2 => ?_)
    exact es_fin rfl rfl rfl
  · refine (es_st 7 (pc' := 63) (L' := [(0, .ref 31), (1, .int x0_1)]) (S' := [.int x0_1, .ref 93, .int (sF h1 27 10), .ref 31]) (h' := h1) rfl).trans ?_
    refine (es_cI (b := true) (k' := 137) (pc' := 66) (as := [.ref 93, .int x0_1]) (S' := [.int (sF h1 27 10), .ref 31]) (L' := [(0, .ref 31), (1, .int x0_1)]) (h' := h1) rfl rfl rfl rfl rfl).trans (kI_cg fun x4 h3 => ?_)
    refine (is_ne (t := 73) rfl rfl rfl).trans (if_cg ?_ ?_)
    · refine (es_st 2 (pc' := 74) (L' := [(0, .ref 31), (1, .int x0_1)]) (S' := [.int (1 : Int32), .ref 31]) (h' := h3) rfl).trans ?_
      exact es_cut rfl rfl rfl
    · refine (es_st 1 (pc' := 74) (L' := [(0, .ref 31), (1, .int x0_1)]) (S' := [.int (0 : Int32), .ref 31]) (h' := h3) rfl).trans ?_
      exact es_cut rfl rfl rfl
theorem sX3_beginning_74 (d : Nat) (hd : 4 ≤ d) (h : SG) (x0_1 : Int32) (s0 : Int32) : evS true d 56 74 [(0, .ref 31), (1, .int x0_1)] [.int s0, .ref 31] h = kV (mS true (d - 1) 49 [.ref 31, .int s0, .int (30 : Int32), .int (sF h 27 7)] h) (fun h1 => ob (rSet h1 94 (((8 : Int32) * x0_1) + (4 : Int32)) ((sJ h1 27 9).toInt32)) (fun h2 => ob (rSet h2 94 (((8 : Int32) * x0_1) + (5 : Int32)) ((lus (sJ h2 27 9) (32 : Int32)).toInt32)) (fun h3 => kV (mS true (d - 1) 30 [.ref 27] h3) (fun h4 => some (.inl none, h4))))) := by
  obtain ⟨d, rfl⟩ : ∃ e, d = e + 4 := ⟨d - 4, by omega⟩
  refine (es_st 4 (pc' := 83) (L' := [(0, .ref 31), (1, .int x0_1)]) (S' := [.int (sF h 27 7), .int (30 : Int32), .int s0, .ref 31]) (h' := h) rfl).trans ?_
  refine (es_cV (b := true) (k' := 49) (pc' := 86) (as := [.ref 31, .int s0, .int (30 : Int32), .int (sF h 27 7)]) (S' := []) (L' := [(0, .ref 31), (1, .int x0_1)]) (h' := h) rfl rfl rfl rfl rfl).trans (kV_cg fun h1 => ?_)
  refine (es_st 12 (pc' := 107) (L' := [(0, .ref 31), (1, .int x0_1)]) (S' := [.int (sJ h1 27 9).toInt32, .int (((8 : Int32) * x0_1) + (4 : Int32)), .ref 94]) (h' := h1) rfl).trans ?_
  refine (es_ob (o := rSet h1 94 (((8 : Int32) * x0_1) + (4 : Int32)) ((sJ h1 27 9).toInt32)) (pc' := 110) (L' := [(0, .ref 31), (1, .int x0_1)]) (S' := fun z => []) (h' := fun z => z) rfl rfl rfl).trans (ob_cg fun h2 => ?_)
  refine (es_st 14 (pc' := 134) (L' := [(0, .ref 31), (1, .int x0_1)]) (S' := [.int (lus (sJ h2 27 9) (32 : Int32)).toInt32, .int (((8 : Int32) * x0_1) + (5 : Int32)), .ref 94]) (h' := h2) rfl).trans ?_
  refine (es_ob (o := rSet h2 94 (((8 : Int32) * x0_1) + (5 : Int32)) ((lus (sJ h2 27 9) (32 : Int32)).toInt32)) (pc' := 137) (L' := [(0, .ref 31), (1, .int x0_1)]) (S' := fun z => []) (h' := fun z => z) rfl rfl rfl).trans (ob_cg fun h3 => ?_)
  refine (es_st 2 (pc' := 141) (L' := [(0, .ref 31), (1, .int x0_1)]) (S' := [.ref 27]) (h' := h3) rfl).trans ?_
  refine (es_cV (b := true) (k' := 30) (pc' := 144) (as := [.ref 27]) (S' := []) (L' := [(0, .ref 31), (1, .int x0_1)]) (h' := h3) rfl rfl rfl rfl rfl).trans (kV_cg fun h4 => ?_)
  exact es_fin rfl rfl rfl
theorem sX3_item_0 (d : Nat) (hd : 4 ≤ d) (h : SG) : mS true d 57 [.ref 31] h = if (sF h 27 6) = (304 : Int32) then kV (mS true (d - 1) 30 [.ref 27] h) (fun h1 => kI (mS true (d - 1) 53 [.ref 31] h1) (fun x3 h2 => kI (mS true (d - 1) 55 [.ref 31, .int (3 : Int32), .int x3] h2) (fun x5 h4 => kV (mS true (d - 1) 44 [.ref 27, .int (59 : Int32)] h4) (fun h6 => some (.inl none, h6))))) else if (sF h 27 6) = (305 : Int32) then kV (mS true (d - 1) 30 [.ref 27] h) (fun h7 => kI (mS true (d - 1) 53 [.ref 31] h7) (fun x9 h8 => kI (mS true (d - 1) 55 [.ref 31, .int (4 : Int32), .int x9] h8) (fun x11 h10 => kV (mS true (d - 1) 56 [.ref 31, .int x11] h10) (fun h12 => kV (mS true (d - 1) 44 [.ref 27, .int (59 : Int32)] h12) (fun h13 => some (.inl none, h13)))))) else if (sF h 27 6) = (306 : Int32) then kV (mS true (d - 1) 58 [.ref 31] h) (fun h14 => some (.inl none, h14)) else if (sF h 27 6) = (307 : Int32) then kV (mS true (d - 1) 77 [.ref 31] h) (fun h15 => some (.inl none, h15)) else if (sF h 27 6) = (308 : Int32) then if (sF h 27 6) = (257 : Int32) then evS true d 57 270 [(0, .ref 31)] [.int (1 : Int32), .ref 31] h else evS true d 57 270 [(0, .ref 31)] [.int (0 : Int32), .ref 31] h else if (sF h 27 6) = (309 : Int32) then if (sF h 27 6) = (257 : Int32) then evS true d 57 270 [(0, .ref 31)] [.int (1 : Int32), .ref 31] h else evS true d 57 270 [(0, .ref 31)] [.int (0 : Int32), .ref 31] h else if (sF h 27 6) = (310 : Int32) then if (sF h 27 6) = (257 : Int32) then evS true d 57 270 [(0, .ref 31)] [.int (1 : Int32), .ref 31] h else evS true d 57 270 [(0, .ref 31)] [.int (0 : Int32), .ref 31] h else if (sF h 27 6) = (311 : Int32) then if (sF h 27 6) = (257 : Int32) then evS true d 57 270 [(0, .ref 31)] [.int (1 : Int32), .ref 31] h else evS true d 57 270 [(0, .ref 31)] [.int (0 : Int32), .ref 31] h else if (sF h 27 6) = (312 : Int32) then if (sF h 27 6) = (257 : Int32) then evS true d 57 270 [(0, .ref 31)] [.int (1 : Int32), .ref 31] h else evS true d 57 270 [(0, .ref 31)] [.int (0 : Int32), .ref 31] h else if (sF h 27 6) = (313 : Int32) then if (sF h 27 6) = (257 : Int32) then evS true d 57 270 [(0, .ref 31)] [.int (1 : Int32), .ref 31] h else evS true d 57 270 [(0, .ref 31)] [.int (0 : Int32), .ref 31] h else if (sF h 27 6) = (314 : Int32) then if (sF h 27 6) = (257 : Int32) then evS true d 57 270 [(0, .ref 31)] [.int (1 : Int32), .ref 31] h else evS true d 57 270 [(0, .ref 31)] [.int (0 : Int32), .ref 31] h else if (sF h 27 6) = (315 : Int32) then if (sF h 27 6) = (257 : Int32) then evS true d 57 270 [(0, .ref 31)] [.int (1 : Int32), .ref 31] h else evS true d 57 270 [(0, .ref 31)] [.int (0 : Int32), .ref 31] h else if (sF h 27 6) = (316 : Int32) then if (sF h 27 6) = (257 : Int32) then evS true d 57 270 [(0, .ref 31)] [.int (1 : Int32), .ref 31] h else evS true d 57 270 [(0, .ref 31)] [.int (0 : Int32), .ref 31] h else if (sF h 27 6) = (317 : Int32) then kV (mS true (d - 1) 30 [.ref 27] h) (fun h16 => if (sF h16 27 6) = (40 : Int32) then evS true d 57 178 [(0, .ref 31)] [.int (1 : Int32), .ref 31] h16 else evS true d 57 178 [(0, .ref 31)] [.int (0 : Int32), .ref 31] h16) else if (sF h 27 6) = (257 : Int32) then evS true d 57 270 [(0, .ref 31)] [.int (1 : Int32), .ref 31] h else evS true d 57 270 [(0, .ref 31)] [.int (0 : Int32), .ref 31] h := by
  obtain ⟨d, rfl⟩ : ∃ e, d = e + 4 := ⟨d - 4, by omega⟩
  show evS true (d + 4) 57 0 [(0, .ref 31)] [] h = _
  refine (es_st 3 (pc' := 7) (L' := [(0, .ref 31)]) (S' := [.int (sF h 27 6)]) (h' := h) rfl).trans ?_
  refine (es_sw (a := (sF h 27 6)) (cs := [((304 : Int32), 76), ((305 : Int32), 105), ((306 : Int32), 139), ((307 : Int32), 146), ((308 : Int32), 251), ((309 : Int32), 251), ((310 : Int32), 251), ((311 : Int32), 251), ((312 : Int32), 251), ((313 : Int32), 251), ((314 : Int32), 251), ((315 : Int32), 251), ((316 : Int32), 251), ((317 : Int32), 153)]) (df := 251) (L' := [(0, .ref 31)]) (S' := []) rfl rfl rfl).trans ?_
  refine ss_cons.trans (if_cg ?_ ?_)
  · refine (es_st 2 (pc' := 80) (L' := [(0, .ref 31)]) (S' := [.ref 27]) (h' := h) rfl).trans ?_
    refine (es_cV (b := true) (k' := 30) (pc' := 83) (as := [.ref 27]) (S' := []) (L' := [(0, .ref 31)]) (h' := h) rfl rfl rfl rfl rfl).trans (kV_cg fun h1 => ?_)
    refine (es_st 3 (pc' := 86) (L' := [(0, .ref 31)]) (S' := [.ref 31, .int (3 : Int32), .ref 31]) (h' := h1) rfl).trans ?_
    refine (es_cI (b := true) (k' := 53) (pc' := 89) (as := [.ref 31]) (S' := [.int (3 : Int32), .ref 31]) (L' := [(0, .ref 31)]) (h' := h1) rfl rfl rfl rfl rfl).trans (kI_cg fun x3 h2 => ?_)
    refine (es_cI (b := true) (k' := 55) (pc' := 92) (as := [.ref 31, .int (3 : Int32), .int x3]) (S' := []) (L' := [(0, .ref 31)]) (h' := h2) rfl rfl rfl rfl rfl).trans (kI_cg fun x5 h4 => ?_)
    refine (es_st 4 (pc' := 99) (L' := [(1, .int x5), (0, .ref 31)]) (S' := [.int (59 : Int32), .ref 27]) (h' := h4) rfl).trans ?_
    refine (es_cV (b := true) (k' := 44) (pc' := 102) (as := [.ref 27, .int (59 : Int32)]) (S' := []) (L' := [(1, .int x5), (0, .ref 31)]) (h' := h4) rfl rfl rfl rfl rfl).trans (kV_cg fun h6 => ?_)
    refine (es_st 1 (pc' := 285) (L' := [(1, .int x5), (0, .ref 31)]) (S' := []) (h' := h6) rfl).trans ?_
    exact es_fin rfl rfl rfl
  · refine ss_cons.trans (if_cg ?_ ?_)
    · refine (es_st 2 (pc' := 109) (L' := [(0, .ref 31)]) (S' := [.ref 27]) (h' := h) rfl).trans ?_
      refine (es_cV (b := true) (k' := 30) (pc' := 112) (as := [.ref 27]) (S' := []) (L' := [(0, .ref 31)]) (h' := h) rfl rfl rfl rfl rfl).trans (kV_cg fun h7 => ?_)
      refine (es_st 3 (pc' := 115) (L' := [(0, .ref 31)]) (S' := [.ref 31, .int (4 : Int32), .ref 31]) (h' := h7) rfl).trans ?_
      refine (es_cI (b := true) (k' := 53) (pc' := 118) (as := [.ref 31]) (S' := [.int (4 : Int32), .ref 31]) (L' := [(0, .ref 31)]) (h' := h7) rfl rfl rfl rfl rfl).trans (kI_cg fun x9 h8 => ?_)
      refine (es_cI (b := true) (k' := 55) (pc' := 121) (as := [.ref 31, .int (4 : Int32), .int x9]) (S' := []) (L' := [(0, .ref 31)]) (h' := h8) rfl rfl rfl rfl rfl).trans (kI_cg fun x11 h10 => ?_)
      refine (es_st 3 (pc' := 124) (L' := [(1, .int x11), (0, .ref 31)]) (S' := [.int x11, .ref 31]) (h' := h10) rfl).trans ?_
      refine (es_cV (b := true) (k' := 56) (pc' := 127) (as := [.ref 31, .int x11]) (S' := []) (L' := [(1, .int x11), (0, .ref 31)]) (h' := h10) rfl rfl rfl rfl rfl).trans (kV_cg fun h12 => ?_)
      refine (es_st 3 (pc' := 133) (L' := [(1, .int x11), (0, .ref 31)]) (S' := [.int (59 : Int32), .ref 27]) (h' := h12) rfl).trans ?_
      refine (es_cV (b := true) (k' := 44) (pc' := 136) (as := [.ref 27, .int (59 : Int32)]) (S' := []) (L' := [(1, .int x11), (0, .ref 31)]) (h' := h12) rfl rfl rfl rfl rfl).trans (kV_cg fun h13 => ?_)
      refine (es_st 1 (pc' := 285) (L' := [(1, .int x11), (0, .ref 31)]) (S' := []) (h' := h13) rfl).trans ?_
      exact es_fin rfl rfl rfl
    · refine ss_cons.trans (if_cg ?_ ?_)
      · refine (es_st 1 (pc' := 140) (L' := [(0, .ref 31)]) (S' := [.ref 31]) (h' := h) rfl).trans ?_
        refine (es_cV (b := true) (k' := 58) (pc' := 143) (as := [.ref 31]) (S' := []) (L' := [(0, .ref 31)]) (h' := h) rfl rfl rfl rfl rfl).trans (kV_cg fun h14 => ?_)
        refine (es_st 1 (pc' := 285) (L' := [(0, .ref 31)]) (S' := []) (h' := h14) rfl).trans ?_
        exact es_fin rfl rfl rfl
      · refine ss_cons.trans (if_cg ?_ ?_)
        · refine (es_st 1 (pc' := 147) (L' := [(0, .ref 31)]) (S' := [.ref 31]) (h' := h) rfl).trans ?_
          refine (es_cV (b := true) (k' := 77) (pc' := 150) (as := [.ref 31]) (S' := []) (L' := [(0, .ref 31)]) (h' := h) rfl rfl rfl rfl rfl).trans (kV_cg fun h15 => ?_)
          refine (es_st 1 (pc' := 285) (L' := [(0, .ref 31)]) (S' := []) (h' := h15) rfl).trans ?_
          exact es_fin rfl rfl rfl
        · refine ss_cons.trans (if_cg ?_ ?_)
          · refine (es_st 5 (pc' := 262) (L' := [(0, .ref 31)]) (S' := [.int (257 : Int32), .int (sF h 27 6), .ref 31]) (h' := h) rfl).trans ?_
            refine (is_ne (t := 269) rfl rfl rfl).trans (if_cg ?_ ?_)
            · refine (es_st 2 (pc' := 270) (L' := [(0, .ref 31)]) (S' := [.int (1 : Int32), .ref 31]) (h' := h) rfl).trans ?_
              exact es_cut rfl rfl rfl
            · refine (es_st 1 (pc' := 270) (L' := [(0, .ref 31)]) (S' := [.int (0 : Int32), .ref 31]) (h' := h) rfl).trans ?_
              exact es_cut rfl rfl rfl
          · refine ss_cons.trans (if_cg ?_ ?_)
            · refine (es_st 5 (pc' := 262) (L' := [(0, .ref 31)]) (S' := [.int (257 : Int32), .int (sF h 27 6), .ref 31]) (h' := h) rfl).trans ?_
              refine (is_ne (t := 269) rfl rfl rfl).trans (if_cg ?_ ?_)
              · refine (es_st 2 (pc' := 270) (L' := [(0, .ref 31)]) (S' := [.int (1 : Int32), .ref 31]) (h' := h) rfl).trans ?_
                exact es_cut rfl rfl rfl
              · refine (es_st 1 (pc' := 270) (L' := [(0, .ref 31)]) (S' := [.int (0 : Int32), .ref 31]) (h' := h) rfl).trans ?_
                exact es_cut rfl rfl rfl
            · refine ss_cons.trans (if_cg ?_ ?_)
              · refine (es_st 5 (pc' := 262) (L' := [(0, .ref 31)]) (S' := [.int (257 : Int32), .int (sF h 27 6), .ref 31]) (h' := h) rfl).trans ?_
                refine (is_ne (t := 269) rfl rfl rfl).trans (if_cg ?_ ?_)
                · refine (es_st 2 (pc' := 270) (L' := [(0, .ref 31)]) (S' := [.int (1 : Int32), .ref 31]) (h' := h) rfl).trans ?_
                  exact es_cut rfl rfl rfl
                · refine (es_st 1 (pc' := 270) (L' := [(0, .ref 31)]) (S' := [.int (0 : Int32), .ref 31]) (h' := h) rfl).trans ?_
                  exact es_cut rfl rfl rfl
              · refine ss_cons.trans (if_cg ?_ ?_)
                · refine (es_st 5 (pc' := 262) (L' := [(0, .ref 31)]) (S' := [.int (257 : Int32), .int (sF h 27 6), .ref 31]) (h' := h) rfl).trans ?_
                  refine (is_ne (t := 269) rfl rfl rfl).trans (if_cg ?_ ?_)
                  · refine (es_st 2 (pc' := 270) (L' := [(0, .ref 31)]) (S' := [.int (1 : Int32), .ref 31]) (h' := h) rfl).trans ?_
                    exact es_cut rfl rfl rfl
                  · refine (es_st 1 (pc' := 270) (L' := [(0, .ref 31)]) (S' := [.int (0 : Int32), .ref 31]) (h' := h) rfl).trans ?_
                    exact es_cut rfl rfl rfl
                · refine ss_cons.trans (if_cg ?_ ?_)
                  · refine (es_st 5 (pc' := 262) (L' := [(0, .ref 31)]) (S' := [.int (257 : Int32), .int (sF h 27 6), .ref 31]) (h' := h) rfl).trans ?_
                    refine (is_ne (t := 269) rfl rfl rfl).trans (if_cg ?_ ?_)
                    · refine (es_st 2 (pc' := 270) (L' := [(0, .ref 31)]) (S' := [.int (1 : Int32), .ref 31]) (h' := h) rfl).trans ?_
                      exact es_cut rfl rfl rfl
                    · refine (es_st 1 (pc' := 270) (L' := [(0, .ref 31)]) (S' := [.int (0 : Int32), .ref 31]) (h' := h) rfl).trans ?_
                      exact es_cut rfl rfl rfl
                  · refine ss_cons.trans (if_cg ?_ ?_)
                    · refine (es_st 5 (pc' := 262) (L' := [(0, .ref 31)]) (S' := [.int (257 : Int32), .int (sF h 27 6), .ref 31]) (h' := h) rfl).trans ?_
                      refine (is_ne (t := 269) rfl rfl rfl).trans (if_cg ?_ ?_)
                      · refine (es_st 2 (pc' := 270) (L' := [(0, .ref 31)]) (S' := [.int (1 : Int32), .ref 31]) (h' := h) rfl).trans ?_
                        exact es_cut rfl rfl rfl
                      · refine (es_st 1 (pc' := 270) (L' := [(0, .ref 31)]) (S' := [.int (0 : Int32), .ref 31]) (h' := h) rfl).trans ?_
                        exact es_cut rfl rfl rfl
                    · refine ss_cons.trans (if_cg ?_ ?_)
                      · refine (es_st 5 (pc' := 262) (L' := [(0, .ref 31)]) (S' := [.int (257 : Int32), .int (sF h 27 6), .ref 31]) (h' := h) rfl).trans ?_
                        refine (is_ne (t := 269) rfl rfl rfl).trans (if_cg ?_ ?_)
                        · refine (es_st 2 (pc' := 270) (L' := [(0, .ref 31)]) (S' := [.int (1 : Int32), .ref 31]) (h' := h) rfl).trans ?_
                          exact es_cut rfl rfl rfl
                        · refine (es_st 1 (pc' := 270) (L' := [(0, .ref 31)]) (S' := [.int (0 : Int32), .ref 31]) (h' := h) rfl).trans ?_
                          exact es_cut rfl rfl rfl
                      · refine ss_cons.trans (if_cg ?_ ?_)
                        · refine (es_st 5 (pc' := 262) (L' := [(0, .ref 31)]) (S' := [.int (257 : Int32), .int (sF h 27 6), .ref 31]) (h' := h) rfl).trans ?_
                          refine (is_ne (t := 269) rfl rfl rfl).trans (if_cg ?_ ?_)
                          · refine (es_st 2 (pc' := 270) (L' := [(0, .ref 31)]) (S' := [.int (1 : Int32), .ref 31]) (h' := h) rfl).trans ?_
                            exact es_cut rfl rfl rfl
                          · refine (es_st 1 (pc' := 270) (L' := [(0, .ref 31)]) (S' := [.int (0 : Int32), .ref 31]) (h' := h) rfl).trans ?_
                            exact es_cut rfl rfl rfl
                        · refine ss_cons.trans (if_cg ?_ ?_)
                          · refine (es_st 5 (pc' := 262) (L' := [(0, .ref 31)]) (S' := [.int (257 : Int32), .int (sF h 27 6), .ref 31]) (h' := h) rfl).trans ?_
                            refine (is_ne (t := 269) rfl rfl rfl).trans (if_cg ?_ ?_)
                            · refine (es_st 2 (pc' := 270) (L' := [(0, .ref 31)]) (S' := [.int (1 : Int32), .ref 31]) (h' := h) rfl).trans ?_
                              exact es_cut rfl rfl rfl
                            · refine (es_st 1 (pc' := 270) (L' := [(0, .ref 31)]) (S' := [.int (0 : Int32), .ref 31]) (h' := h) rfl).trans ?_
                              exact es_cut rfl rfl rfl
                          · refine ss_cons.trans (if_cg ?_ ?_)
                            · refine (es_st 2 (pc' := 157) (L' := [(0, .ref 31)]) (S' := [.ref 27]) (h' := h) rfl).trans ?_
                              refine (es_cV (b := true) (k' := 30) (pc' := 160) (as := [.ref 27]) (S' := []) (L' := [(0, .ref 31)]) (h' := h) rfl rfl rfl rfl rfl).trans (kV_cg fun h16 => ?_)
                              refine (es_st 5 (pc' := 170) (L' := [(0, .ref 31)]) (S' := [.int (40 : Int32), .int (sF h16 27 6), .ref 31]) (h' := h16) rfl).trans ?_
                              refine (is_ne (t := 177) rfl rfl rfl).trans (if_cg ?_ ?_)
                              · refine (es_st 2 (pc' := 178) (L' := [(0, .ref 31)]) (S' := [.int (1 : Int32), .ref 31]) (h' := h16) rfl).trans ?_
                                exact es_cut rfl rfl rfl
                              · refine (es_st 1 (pc' := 178) (L' := [(0, .ref 31)]) (S' := [.int (0 : Int32), .ref 31]) (h' := h16) rfl).trans ?_
                                exact es_cut rfl rfl rfl
                            · refine (es_st 5 (pc' := 262) (L' := [(0, .ref 31)]) (S' := [.int (257 : Int32), .int (sF h 27 6), .ref 31]) (h' := h) rfl).trans ?_
                              refine (is_ne (t := 269) rfl rfl rfl).trans (if_cg ?_ ?_)
                              · refine (es_st 2 (pc' := 270) (L' := [(0, .ref 31)]) (S' := [.int (1 : Int32), .ref 31]) (h' := h) rfl).trans ?_
                                exact es_cut rfl rfl rfl
                              · refine (es_st 1 (pc' := 270) (L' := [(0, .ref 31)]) (S' := [.int (0 : Int32), .ref 31]) (h' := h) rfl).trans ?_
                                exact es_cut rfl rfl rfl
theorem sX3_item_178 (d : Nat) (hd : 4 ≤ d) (h : SG) (s0 : Int32) : evS true d 57 178 [(0, .ref 31)] [.int s0, .ref 31] h = kV (mS true (d - 1) 49 [.ref 31, .int s0, .int (2 : Int32), .int (sF h 27 7)] h) (fun h1 => kV (mS true (d - 1) 71 [.ref 31] h1) (fun h2 => if (sF h2 31 2) = 0 then evS true d 57 222 [(0, .ref 31), (1, .int (Int32.ofNat (sW h1 102).length))] [] h2 else ob (rTake h2 36) (fun q3 => kV (mS true (d - 1) 70 [.ref 31, .int q3.1] q3.2) (fun h4 => evS true d 57 222 [(0, .ref 31), (1, .int (Int32.ofNat (sW h1 102).length))] [] h4)))) := by
  obtain ⟨d, rfl⟩ : ∃ e, d = e + 4 := ⟨d - 4, by omega⟩
  refine (es_st 4 (pc' := 186) (L' := [(0, .ref 31)]) (S' := [.int (sF h 27 7), .int (2 : Int32), .int s0, .ref 31]) (h' := h) rfl).trans ?_
  refine (es_cV (b := true) (k' := 49) (pc' := 189) (as := [.ref 31, .int s0, .int (2 : Int32), .int (sF h 27 7)]) (S' := []) (L' := [(0, .ref 31)]) (h' := h) rfl rfl rfl rfl rfl).trans (kV_cg fun h1 => ?_)
  refine (es_st 6 (pc' := 201) (L' := [(1, .int (Int32.ofNat (sW h1 102).length)), (0, .ref 31)]) (S' := [.ref 31]) (h' := h1) rfl).trans ?_
  refine (es_cV (b := true) (k' := 71) (pc' := 204) (as := [.ref 31]) (S' := []) (L' := [(1, .int (Int32.ofNat (sW h1 102).length)), (0, .ref 31)]) (h' := h1) rfl rfl rfl rfl rfl).trans (kV_cg fun h2 => ?_)
  refine (es_st 2 (pc' := 208) (L' := [(1, .int (Int32.ofNat (sW h1 102).length)), (0, .ref 31)]) (S' := [.int (sF h2 31 2)]) (h' := h2) rfl).trans ?_
  refine (zs_eq (t := 222) rfl rfl rfl).trans (if_cg ?_ ?_)
  · exact es_cut rfl rfl rfl
  · refine (es_st 3 (pc' := 216) (L' := [(1, .int (Int32.ofNat (sW h1 102).length)), (0, .ref 31)]) (S' := [.ref 36, .ref 31]) (h' := h2) rfl).trans ?_
    refine (es_ob (o := rTake h2 36) (pc' := 219) (L' := [(1, .int (Int32.ofNat (sW h1 102).length)), (0, .ref 31)]) (S' := fun z => [.int z.1, .ref 31]) (h' := fun z => z.2) rfl rfl rfl).trans (ob_cg fun q3 => ?_)
    refine (es_cV (b := true) (k' := 70) (pc' := 222) (as := [.ref 31, .int q3.1]) (S' := []) (L' := [(1, .int (Int32.ofNat (sW h1 102).length)), (0, .ref 31)]) (h' := q3.2) rfl rfl rfl rfl rfl).trans (kV_cg fun h4 => ?_)
    exact es_cut rfl rfl rfl
theorem sX3_item_222 (d : Nat) (hd : 4 ≤ d) (h : SG) (x0_1 : Int32) : evS true d 57 222 [(0, .ref 31), (1, .int x0_1)] [] h = kV (mS true (d - 1) 76 [.ref 31, .int (3 : Int32), .int (0 : Int32), .int x0_1, .int (Int32.ofNat (sW h 102).length)] h) (fun h1 => kV (mS true (d - 1) 44 [.ref 27, .int (59 : Int32)] h1) (fun h2 => some (.inl none, h2))) := by
  obtain ⟨d, rfl⟩ : ∃ e, d = e + 4 := ⟨d - 4, by omega⟩
  refine (es_st 8 (pc' := 236) (L' := [(0, .ref 31), (1, .int x0_1)]) (S' := [.int (Int32.ofNat (sW h 102).length), .int x0_1, .int (0 : Int32), .int (3 : Int32), .ref 31]) (h' := h) rfl).trans ?_
  refine (es_cV (b := true) (k' := 76) (pc' := 239) (as := [.ref 31, .int (3 : Int32), .int (0 : Int32), .int x0_1, .int (Int32.ofNat (sW h 102).length)]) (S' := []) (L' := [(0, .ref 31), (1, .int x0_1)]) (h' := h) rfl rfl rfl rfl rfl).trans (kV_cg fun h1 => ?_)
  refine (es_st 3 (pc' := 245) (L' := [(0, .ref 31), (1, .int x0_1)]) (S' := [.int (59 : Int32), .ref 27]) (h' := h1) rfl).trans ?_
  refine (es_cV (b := true) (k' := 44) (pc' := 248) (as := [.ref 27, .int (59 : Int32)]) (S' := []) (L' := [(0, .ref 31), (1, .int x0_1)]) (h' := h1) rfl rfl rfl rfl rfl).trans (kV_cg fun h2 => ?_)
  refine (es_st 1 (pc' := 285) (L' := [(0, .ref 31), (1, .int x0_1)]) (S' := []) (h' := h2) rfl).trans ?_
  exact es_fin rfl rfl rfl
theorem sX3_item_270 (d : Nat) (hd : 4 ≤ d) (h : SG) (s0 : Int32) : evS true d 57 270 [(0, .ref 31)] [.int s0, .ref 31] h = kV (mS true (d - 1) 49 [.ref 31, .int s0, .int (2 : Int32), .int (sF h 27 7)] h) (fun h1 => kV (mS true (d - 1) 84 [.ref 31] h1) (fun h2 => some (.inl none, h2))) := by
  obtain ⟨d, rfl⟩ : ∃ e, d = e + 4 := ⟨d - 4, by omega⟩
  refine (es_st 4 (pc' := 278) (L' := [(0, .ref 31)]) (S' := [.int (sF h 27 7), .int (2 : Int32), .int s0, .ref 31]) (h' := h) rfl).trans ?_
  refine (es_cV (b := true) (k' := 49) (pc' := 281) (as := [.ref 31, .int s0, .int (2 : Int32), .int (sF h 27 7)]) (S' := []) (L' := [(0, .ref 31)]) (h' := h) rfl rfl rfl rfl rfl).trans (kV_cg fun h1 => ?_)
  refine (es_st 1 (pc' := 282) (L' := [(0, .ref 31)]) (S' := [.ref 31]) (h' := h1) rfl).trans ?_
  refine (es_cV (b := true) (k' := 84) (pc' := 285) (as := [.ref 31]) (S' := []) (L' := [(0, .ref 31)]) (h' := h1) rfl rfl rfl rfl rfl).trans (kV_cg fun h2 => ?_)
  exact es_fin rfl rfl rfl
theorem sX3_assign_0 (d : Nat) (hd : 4 ≤ d) (h : SG) : mS true d 58 [.ref 31] h = kV (mS true (d - 1) 30 [.ref 27] h) (fun h1 => kI (mS true (d - 1) 59 [.ref 31, .int (1 : Int32)] h1) (fun x3 h2 => kV (mS true (d - 1) 60 [.ref 31, .int x3, .int (sF h2 27 7)] h2) (fun h4 => kV (mS true (d - 1) 30 [.ref 27] h4) (fun h5 => kV (mS true (d - 1) 44 [.ref 27, .int (61 : Int32)] h5) (fun h6 => kV (mS true (d - 1) 61 [.ref 31] h6) (fun h7 => if (sF h7 31 2) = 0 then evS true d 58 101 [(0, .ref 31), (1, .int x3), (3, .int (Int32.ofNat (sW h6 102).length))] [] h7 else ob (rTake h7 36) (fun q8 => kI (mS true (d - 1) 137 [.ref 93, .int x3] q8.2) (fun x10 h9 => if q8.1 = x10 then kV (mS true (d - 1) 49 [.ref 31, .int (1 : Int32), .int (30 : Int32), .int (sF h5 27 7)] h9) (fun h12 => evS true d 58 101 [(0, .ref 31), (1, .int x3), (3, .int (Int32.ofNat (sW h6 102).length))] [] h12) else kV (mS true (d - 1) 49 [.ref 31, .int (0 : Int32), .int (30 : Int32), .int (sF h5 27 7)] h9) (fun h11 => evS true d 58 101 [(0, .ref 31), (1, .int x3), (3, .int (Int32.ofNat (sW h6 102).length))] [] h11))))))))) := by
  obtain ⟨d, rfl⟩ : ∃ e, d = e + 4 := ⟨d - 4, by omega⟩
  show evS true (d + 4) 58 0 [(0, .ref 31)] [] h = _
  refine (es_st 2 (pc' := 4) (L' := [(0, .ref 31)]) (S' := [.ref 27]) (h' := h) rfl).trans ?_
  refine (es_cV (b := true) (k' := 30) (pc' := 7) (as := [.ref 27]) (S' := []) (L' := [(0, .ref 31)]) (h' := h) rfl rfl rfl rfl rfl).trans (kV_cg fun h1 => ?_)
  refine (es_st 2 (pc' := 9) (L' := [(0, .ref 31)]) (S' := [.int (1 : Int32), .ref 31]) (h' := h1) rfl).trans ?_
  refine (es_cI (b := true) (k' := 59) (pc' := 12) (as := [.ref 31, .int (1 : Int32)]) (S' := []) (L' := [(0, .ref 31)]) (h' := h1) rfl rfl rfl rfl rfl).trans (kI_cg fun x3 h2 => ?_)
  refine (es_st 6 (pc' := 22) (L' := [(1, .int x3), (0, .ref 31)]) (S' := [.int (sF h2 27 7), .int x3, .ref 31]) (h' := h2) rfl).trans ?_
  refine (es_cV (b := true) (k' := 60) (pc' := 25) (as := [.ref 31, .int x3, .int (sF h2 27 7)]) (S' := []) (L' := [(1, .int x3), (0, .ref 31)]) (h' := h2) rfl rfl rfl rfl rfl).trans (kV_cg fun h4 => ?_)
  refine (es_st 2 (pc' := 29) (L' := [(1, .int x3), (0, .ref 31)]) (S' := [.ref 27]) (h' := h4) rfl).trans ?_
  refine (es_cV (b := true) (k' := 30) (pc' := 32) (as := [.ref 27]) (S' := []) (L' := [(1, .int x3), (0, .ref 31)]) (h' := h4) rfl rfl rfl rfl rfl).trans (kV_cg fun h5 => ?_)
  refine (es_st 7 (pc' := 46) (L' := [(2, .int (sF h5 27 7)), (1, .int x3), (0, .ref 31)]) (S' := [.int (61 : Int32), .ref 27]) (h' := h5) rfl).trans ?_
  refine (es_cV (b := true) (k' := 44) (pc' := 49) (as := [.ref 27, .int (61 : Int32)]) (S' := []) (L' := [(2, .int (sF h5 27 7)), (1, .int x3), (0, .ref 31)]) (h' := h5) rfl rfl rfl rfl rfl).trans (kV_cg fun h6 => ?_)
  refine (es_st 6 (pc' := 61) (L' := [(3, .int (Int32.ofNat (sW h6 102).length)), (2, .int (sF h5 27 7)), (1, .int x3), (0, .ref 31)]) (S' := [.ref 31]) (h' := h6) rfl).trans ?_
  refine (es_cV (b := true) (k' := 61) (pc' := 64) (as := [.ref 31]) (S' := []) (L' := [(3, .int (Int32.ofNat (sW h6 102).length)), (2, .int (sF h5 27 7)), (1, .int x3), (0, .ref 31)]) (h' := h6) rfl rfl rfl rfl rfl).trans (kV_cg fun h7 => ?_)
  refine (es_st 2 (pc' := 68) (L' := [(3, .int (Int32.ofNat (sW h6 102).length)), (2, .int (sF h5 27 7)), (1, .int x3), (0, .ref 31)]) (S' := [.int (sF h7 31 2)]) (h' := h7) rfl).trans ?_
  refine (zs_eq (t := 101) rfl rfl rfl).trans (if_cg ?_ ?_)
  · exact es_cut rfl rfl rfl
  · refine (es_st 3 (pc' := 76) (L' := [(3, .int (Int32.ofNat (sW h6 102).length)), (2, .int (sF h5 27 7)), (1, .int x3), (0, .ref 31)]) (S' := [.ref 36, .ref 31]) (h' := h7) rfl).trans ?_
    refine (es_ob (o := rTake h7 36) (pc' := 79) (L' := [(3, .int (Int32.ofNat (sW h6 102).length)), (2, .int (sF h5 27 7)), (1, .int x3), (0, .ref 31)]) (S' := fun z => [.int z.1, .ref 31]) (h' := fun z => z.2) rfl rfl rfl).trans (ob_cg fun q8 => ?_)
    refine (es_st 3 (pc' := 84) (L' := [(3, .int (Int32.ofNat (sW h6 102).length)), (2, .int (sF h5 27 7)), (1, .int x3), (0, .ref 31)]) (S' := [.int x3, .ref 93, .int q8.1, .ref 31]) (h' := q8.2) rfl).trans ?_
    refine (es_cI (b := true) (k' := 137) (pc' := 87) (as := [.ref 93, .int x3]) (S' := [.int q8.1, .ref 31]) (L' := [(3, .int (Int32.ofNat (sW h6 102).length)), (2, .int (sF h5 27 7)), (1, .int x3), (0, .ref 31)]) (h' := q8.2) rfl rfl rfl rfl rfl).trans (kI_cg fun x10 h9 => ?_)
    refine (is_ne (t := 94) rfl rfl rfl).trans (if_cg ?_ ?_)
    · refine (es_st 4 (pc' := 98) (L' := [(3, .int (Int32.ofNat (sW h6 102).length)), (2, .int (sF h5 27 7)), (1, .int x3), (0, .ref 31)]) (S' := [.int (sF h5 27 7), .int (30 : Int32), .int (1 : Int32), .ref 31]) (h' := h9) rfl).trans ?_
      refine (es_cV (b := true) (k' := 49) (pc' := 101) (as := [.ref 31, .int (1 : Int32), .int (30 : Int32), .int (sF h5 27 7)]) (S' := []) (L' := [(3, .int (Int32.ofNat (sW h6 102).length)), (2, .int (sF h5 27 7)), (1, .int x3), (0, .ref 31)]) (h' := h9) rfl rfl rfl rfl rfl).trans (kV_cg fun h12 => ?_)
      exact es_cut rfl rfl rfl
    · refine (es_st 3 (pc' := 98) (L' := [(3, .int (Int32.ofNat (sW h6 102).length)), (2, .int (sF h5 27 7)), (1, .int x3), (0, .ref 31)]) (S' := [.int (sF h5 27 7), .int (30 : Int32), .int (0 : Int32), .ref 31]) (h' := h9) rfl).trans ?_
      refine (es_cV (b := true) (k' := 49) (pc' := 101) (as := [.ref 31, .int (0 : Int32), .int (30 : Int32), .int (sF h5 27 7)]) (S' := []) (L' := [(3, .int (Int32.ofNat (sW h6 102).length)), (2, .int (sF h5 27 7)), (1, .int x3), (0, .ref 31)]) (h' := h9) rfl rfl rfl rfl rfl).trans (kV_cg fun h11 => ?_)
      exact es_cut rfl rfl rfl
theorem sX3_assign_101 (d : Nat) (hd : 4 ≤ d) (h : SG) (x0_1 : Int32) (x0_3 : Int32) : evS true d 58 101 [(0, .ref 31), (1, .int x0_1), (3, .int x0_3)] [] h = kV (mS true (d - 1) 76 [.ref 31, .int (0 : Int32), .int x0_1, .int x0_3, .int (Int32.ofNat (sW h 102).length)] h) (fun h1 => kV (mS true (d - 1) 44 [.ref 27, .int (59 : Int32)] h1) (fun h2 => some (.inl none, h2))) := by
  obtain ⟨d, rfl⟩ : ∃ e, d = e + 4 := ⟨d - 4, by omega⟩
  refine (es_st 8 (pc' := 115) (L' := [(0, .ref 31), (1, .int x0_1), (3, .int x0_3)]) (S' := [.int (Int32.ofNat (sW h 102).length), .int x0_3, .int x0_1, .int (0 : Int32), .ref 31]) (h' := h) rfl).trans ?_
  refine (es_cV (b := true) (k' := 76) (pc' := 118) (as := [.ref 31, .int (0 : Int32), .int x0_1, .int x0_3, .int (Int32.ofNat (sW h 102).length)]) (S' := []) (L' := [(0, .ref 31), (1, .int x0_1), (3, .int x0_3)]) (h' := h) rfl rfl rfl rfl rfl).trans (kV_cg fun h1 => ?_)
  refine (es_st 3 (pc' := 124) (L' := [(0, .ref 31), (1, .int x0_1), (3, .int x0_3)]) (S' := [.int (59 : Int32), .ref 27]) (h' := h1) rfl).trans ?_
  refine (es_cV (b := true) (k' := 44) (pc' := 127) (as := [.ref 27, .int (59 : Int32)]) (S' := []) (L' := [(0, .ref 31), (1, .int x0_1), (3, .int x0_3)]) (h' := h1) rfl rfl rfl rfl rfl).trans (kV_cg fun h2 => ?_)
  exact es_fin rfl rfl rfl
theorem sX3_used_0 (d : Nat) (hd : 1 ≤ d) (h : SG) (x0_1 : Int32) : mS true d 59 [.ref 31, .int x0_1] h = if (sF h 27 6) = (257 : Int32) then evS true d 59 19 [(0, .ref 31), (1, .int x0_1)] [.int (1 : Int32), .ref 31] h else evS true d 59 19 [(0, .ref 31), (1, .int x0_1)] [.int (0 : Int32), .ref 31] h := by
  obtain ⟨d, rfl⟩ : ∃ e, d = e + 1 := ⟨d - 1, by omega⟩
  show evS true (d + 1) 59 0 [(0, .ref 31), (1, .int x0_1)] [] h = _
  refine (es_st 5 (pc' := 11) (L' := [(0, .ref 31), (1, .int x0_1)]) (S' := [.int (257 : Int32), .int (sF h 27 6), .ref 31]) (h' := h) rfl).trans ?_
  refine (is_ne (t := 18) rfl rfl rfl).trans (if_cg ?_ ?_)
  · refine (es_st 2 (pc' := 19) (L' := [(0, .ref 31), (1, .int x0_1)]) (S' := [.int (1 : Int32), .ref 31]) (h' := h) rfl).trans ?_
    exact es_cut rfl rfl rfl
  · refine (es_st 1 (pc' := 19) (L' := [(0, .ref 31), (1, .int x0_1)]) (S' := [.int (0 : Int32), .ref 31]) (h' := h) rfl).trans ?_
    exact es_cut rfl rfl rfl
theorem sX3_used_19 (d : Nat) (hd : 1 ≤ d) (h : SG) (x0_1 : Int32) (s0 : Int32) : evS true d 59 19 [(0, .ref 31), (1, .int x0_1)] [.int s0, .ref 31] h = kV (mS true (d - 1) 49 [.ref 31, .int s0, .int (2 : Int32), .int (sF h 27 7)] h) (fun h1 => if (sF h1 31 2) = 0 then some (.inl (some (.int (-1 : Int32))), h1) else kI (mS true (d - 1) 133 [.ref 93, .int (sF h1 31 3), .ref 30, .int (sF h1 27 7), .int ((sF h1 27 8) - (sF h1 27 7))] h1) (fun x3 h2 => if x3 = (-1 : Int32) then kV (mS true (d - 1) 49 [.ref 31, .int (0 : Int32), .int (22 : Int32), .int (sF h2 27 7)] h2) (fun h4 => some (.inl (some (.int x3)), h4)) else if x0_1 = 0 then kI (mS true (d - 1) 138 [.ref 93, .int x3] h2) (fun x14 h13 => if x14 = (5 : Int32) then kV (mS true (d - 1) 49 [.ref 31, .int (0 : Int32), .int (22 : Int32), .int (sF h13 27 7)] h13) (fun h15 => some (.inl (some (.int x3)), h15)) else kV (mS true (d - 1) 49 [.ref 31, .int (1 : Int32), .int (22 : Int32), .int (sF h13 27 7)] h13) (fun h16 => some (.inl (some (.int x3)), h16))) else if x0_1 = (1 : Int32) then kI (mS true (d - 1) 139 [.ref 93, .int x3] h2) (fun x10 h9 => if x10 = 0 then kV (mS true (d - 1) 49 [.ref 31, .int (0 : Int32), .int (22 : Int32), .int (sF h9 27 7)] h9) (fun h11 => some (.inl (some (.int x3)), h11)) else kV (mS true (d - 1) 49 [.ref 31, .int (1 : Int32), .int (22 : Int32), .int (sF h9 27 7)] h9) (fun h12 => some (.inl (some (.int x3)), h12))) else kI (mS true (d - 1) 140 [.ref 93, .int x3] h2) (fun x6 h5 => if x6 = 0 then kV (mS true (d - 1) 49 [.ref 31, .int (0 : Int32), .int (22 : Int32), .int (sF h5 27 7)] h5) (fun h7 => some (.inl (some (.int x3)), h7)) else kV (mS true (d - 1) 49 [.ref 31, .int (1 : Int32), .int (22 : Int32), .int (sF h5 27 7)] h5) (fun h8 => some (.inl (some (.int x3)), h8))))) := by
  obtain ⟨d, rfl⟩ : ∃ e, d = e + 1 := ⟨d - 1, by omega⟩
  refine (es_st 4 (pc' := 27) (L' := [(0, .ref 31), (1, .int x0_1)]) (S' := [.int (sF h 27 7), .int (2 : Int32), .int s0, .ref 31]) (h' := h) rfl).trans ?_
  refine (es_cV (b := true) (k' := 49) (pc' := 30) (as := [.ref 31, .int s0, .int (2 : Int32), .int (sF h 27 7)]) (S' := []) (L' := [(0, .ref 31), (1, .int x0_1)]) (h' := h) rfl rfl rfl rfl rfl).trans (kV_cg fun h1 => ?_)
  refine (es_st 4 (pc' := 36) (L' := [(2, .int (-1 : Int32)), (0, .ref 31), (1, .int x0_1)]) (S' := [.int (sF h1 31 2)]) (h' := h1) rfl).trans ?_
  refine (zs_eq (t := 154) rfl rfl rfl).trans (if_cg ?_ ?_)
  · refine (es_st 1 (pc' := 155) (L' := [(2, .int (-1 : Int32)), (0, .ref 31), (1, .int x0_1)]) (S' := [.int (-1 : Int32)]) (h' := h1) rfl).trans ?_
    exact es_fin rfl rfl rfl
  · refine (es_st 17 (pc' := 76) (L' := [(2, .int (-1 : Int32)), (0, .ref 31), (1, .int x0_1)]) (S' := [.int ((sF h1 27 8) - (sF h1 27 7)), .int (sF h1 27 7), .ref 30, .int (sF h1 31 3), .ref 93]) (h' := h1) rfl).trans ?_
    refine (es_cI (b := true) (k' := 133) (pc' := 79) (as := [.ref 93, .int (sF h1 31 3), .ref 30, .int (sF h1 27 7), .int ((sF h1 27 8) - (sF h1 27 7))]) (S' := []) (L' := [(2, .int (-1 : Int32)), (0, .ref 31), (1, .int x0_1)]) (h' := h1) rfl rfl rfl rfl rfl).trans (kI_cg fun x3 h2 => ?_)
    refine (es_st 3 (pc' := 82) (L' := [(2, .int x3), (0, .ref 31), (1, .int x0_1)]) (S' := [.int (-1 : Int32), .int x3]) (h' := h2) rfl).trans ?_
    refine (is_eq (t := 138) rfl rfl rfl).trans (if_cg ?_ ?_)
    · refine (es_st 8 (pc' := 151) (L' := [(3, .int (0 : Int32)), (2, .int x3), (0, .ref 31), (1, .int x0_1)]) (S' := [.int (sF h2 27 7), .int (22 : Int32), .int (0 : Int32), .ref 31]) (h' := h2) rfl).trans ?_
      refine (es_cV (b := true) (k' := 49) (pc' := 154) (as := [.ref 31, .int (0 : Int32), .int (22 : Int32), .int (sF h2 27 7)]) (S' := []) (L' := [(3, .int (0 : Int32)), (2, .int x3), (0, .ref 31), (1, .int x0_1)]) (h' := h2) rfl rfl rfl rfl rfl).trans (kV_cg fun h4 => ?_)
      refine (es_st 1 (pc' := 155) (L' := [(3, .int (0 : Int32)), (2, .int x3), (0, .ref 31), (1, .int x0_1)]) (S' := [.int x3]) (h' := h4) rfl).trans ?_
      exact es_fin rfl rfl rfl
    · refine (es_st 1 (pc' := 86) (L' := [(2, .int x3), (0, .ref 31), (1, .int x0_1)]) (S' := [.int x0_1]) (h' := h2) rfl).trans ?_
      refine (zs_ne (t := 104) rfl rfl rfl).trans (if_cg ?_ ?_)
      · refine (es_st 3 (pc' := 94) (L' := [(2, .int x3), (0, .ref 31), (1, .int x0_1)]) (S' := [.int x3, .ref 93]) (h' := h2) rfl).trans ?_
        refine (es_cI (b := true) (k' := 138) (pc' := 97) (as := [.ref 93, .int x3]) (S' := []) (L' := [(2, .int x3), (0, .ref 31), (1, .int x0_1)]) (h' := h2) rfl rfl rfl rfl rfl).trans (kI_cg fun x14 h13 => ?_)
        refine (es_st 1 (pc' := 98) (L' := [(2, .int x3), (0, .ref 31), (1, .int x0_1)]) (S' := [.int (5 : Int32), .int x14]) (h' := h13) rfl).trans ?_
        refine (is_eq (t := 138) rfl rfl rfl).trans (if_cg ?_ ?_)
        · refine (es_st 8 (pc' := 151) (L' := [(3, .int (0 : Int32)), (2, .int x3), (0, .ref 31), (1, .int x0_1)]) (S' := [.int (sF h13 27 7), .int (22 : Int32), .int (0 : Int32), .ref 31]) (h' := h13) rfl).trans ?_
          refine (es_cV (b := true) (k' := 49) (pc' := 154) (as := [.ref 31, .int (0 : Int32), .int (22 : Int32), .int (sF h13 27 7)]) (S' := []) (L' := [(3, .int (0 : Int32)), (2, .int x3), (0, .ref 31), (1, .int x0_1)]) (h' := h13) rfl rfl rfl rfl rfl).trans (kV_cg fun h15 => ?_)
          refine (es_st 1 (pc' := 155) (L' := [(3, .int (0 : Int32)), (2, .int x3), (0, .ref 31), (1, .int x0_1)]) (S' := [.int x3]) (h' := h15) rfl).trans ?_
          exact es_fin rfl rfl rfl
        · refine (es_st 10 (pc' := 151) (L' := [(3, .int (1 : Int32)), (2, .int x3), (0, .ref 31), (1, .int x0_1)]) (S' := [.int (sF h13 27 7), .int (22 : Int32), .int (1 : Int32), .ref 31]) (h' := h13) rfl).trans ?_
          refine (es_cV (b := true) (k' := 49) (pc' := 154) (as := [.ref 31, .int (1 : Int32), .int (22 : Int32), .int (sF h13 27 7)]) (S' := []) (L' := [(3, .int (1 : Int32)), (2, .int x3), (0, .ref 31), (1, .int x0_1)]) (h' := h13) rfl rfl rfl rfl rfl).trans (kV_cg fun h16 => ?_)
          refine (es_st 1 (pc' := 155) (L' := [(3, .int (1 : Int32)), (2, .int x3), (0, .ref 31), (1, .int x0_1)]) (S' := [.int x3]) (h' := h16) rfl).trans ?_
          exact es_fin rfl rfl rfl
      · refine (es_st 2 (pc' := 106) (L' := [(2, .int x3), (0, .ref 31), (1, .int x0_1)]) (S' := [.int (1 : Int32), .int x0_1]) (h' := h2) rfl).trans ?_
        refine (is_ne (t := 123) rfl rfl rfl).trans (if_cg ?_ ?_)
        · refine (es_st 3 (pc' := 114) (L' := [(2, .int x3), (0, .ref 31), (1, .int x0_1)]) (S' := [.int x3, .ref 93]) (h' := h2) rfl).trans ?_
          refine (es_cI (b := true) (k' := 139) (pc' := 117) (as := [.ref 93, .int x3]) (S' := []) (L' := [(2, .int x3), (0, .ref 31), (1, .int x0_1)]) (h' := h2) rfl rfl rfl rfl rfl).trans (kI_cg fun x10 h9 => ?_)
          refine (zs_eq (t := 138) rfl rfl rfl).trans (if_cg ?_ ?_)
          · refine (es_st 8 (pc' := 151) (L' := [(3, .int (0 : Int32)), (2, .int x3), (0, .ref 31), (1, .int x0_1)]) (S' := [.int (sF h9 27 7), .int (22 : Int32), .int (0 : Int32), .ref 31]) (h' := h9) rfl).trans ?_
            refine (es_cV (b := true) (k' := 49) (pc' := 154) (as := [.ref 31, .int (0 : Int32), .int (22 : Int32), .int (sF h9 27 7)]) (S' := []) (L' := [(3, .int (0 : Int32)), (2, .int x3), (0, .ref 31), (1, .int x0_1)]) (h' := h9) rfl rfl rfl rfl rfl).trans (kV_cg fun h11 => ?_)
            refine (es_st 1 (pc' := 155) (L' := [(3, .int (0 : Int32)), (2, .int x3), (0, .ref 31), (1, .int x0_1)]) (S' := [.int x3]) (h' := h11) rfl).trans ?_
            exact es_fin rfl rfl rfl
          · refine (es_st 10 (pc' := 151) (L' := [(3, .int (1 : Int32)), (2, .int x3), (0, .ref 31), (1, .int x0_1)]) (S' := [.int (sF h9 27 7), .int (22 : Int32), .int (1 : Int32), .ref 31]) (h' := h9) rfl).trans ?_
            refine (es_cV (b := true) (k' := 49) (pc' := 154) (as := [.ref 31, .int (1 : Int32), .int (22 : Int32), .int (sF h9 27 7)]) (S' := []) (L' := [(3, .int (1 : Int32)), (2, .int x3), (0, .ref 31), (1, .int x0_1)]) (h' := h9) rfl rfl rfl rfl rfl).trans (kV_cg fun h12 => ?_)
            refine (es_st 1 (pc' := 155) (L' := [(3, .int (1 : Int32)), (2, .int x3), (0, .ref 31), (1, .int x0_1)]) (S' := [.int x3]) (h' := h12) rfl).trans ?_
            exact es_fin rfl rfl rfl
        · refine (es_st 3 (pc' := 128) (L' := [(2, .int x3), (0, .ref 31), (1, .int x0_1)]) (S' := [.int x3, .ref 93]) (h' := h2) rfl).trans ?_
          refine (es_cI (b := true) (k' := 140) (pc' := 131) (as := [.ref 93, .int x3]) (S' := []) (L' := [(2, .int x3), (0, .ref 31), (1, .int x0_1)]) (h' := h2) rfl rfl rfl rfl rfl).trans (kI_cg fun x6 h5 => ?_)
          refine (zs_eq (t := 138) rfl rfl rfl).trans (if_cg ?_ ?_)
          · refine (es_st 8 (pc' := 151) (L' := [(3, .int (0 : Int32)), (2, .int x3), (0, .ref 31), (1, .int x0_1)]) (S' := [.int (sF h5 27 7), .int (22 : Int32), .int (0 : Int32), .ref 31]) (h' := h5) rfl).trans ?_
            refine (es_cV (b := true) (k' := 49) (pc' := 154) (as := [.ref 31, .int (0 : Int32), .int (22 : Int32), .int (sF h5 27 7)]) (S' := []) (L' := [(3, .int (0 : Int32)), (2, .int x3), (0, .ref 31), (1, .int x0_1)]) (h' := h5) rfl rfl rfl rfl rfl).trans (kV_cg fun h7 => ?_)
            refine (es_st 1 (pc' := 155) (L' := [(3, .int (0 : Int32)), (2, .int x3), (0, .ref 31), (1, .int x0_1)]) (S' := [.int x3]) (h' := h7) rfl).trans ?_
            exact es_fin rfl rfl rfl
          · refine (es_st 9 (pc' := 151) (L' := [(3, .int (1 : Int32)), (2, .int x3), (0, .ref 31), (1, .int x0_1)]) (S' := [.int (sF h5 27 7), .int (22 : Int32), .int (1 : Int32), .ref 31]) (h' := h5) rfl).trans ?_
            refine (es_cV (b := true) (k' := 49) (pc' := 154) (as := [.ref 31, .int (1 : Int32), .int (22 : Int32), .int (sF h5 27 7)]) (S' := []) (L' := [(3, .int (1 : Int32)), (2, .int x3), (0, .ref 31), (1, .int x0_1)]) (h' := h5) rfl rfl rfl rfl rfl).trans (kV_cg fun h8 => ?_)
            refine (es_st 1 (pc' := 155) (L' := [(3, .int (1 : Int32)), (2, .int x3), (0, .ref 31), (1, .int x0_1)]) (S' := [.int x3]) (h' := h8) rfl).trans ?_
            exact es_fin rfl rfl rfl
theorem sX3_drive_0 (d : Nat) (hd : 4 ≤ d) (h : SG) (x0_1 : Int32) (x0_2 : Int32) : mS true d 60 [.ref 31, .int x0_1, .int x0_2] h = if (sF h 31 2) = 0 then some (.inl none, h) else kI (mS true (d - 1) 134 [.ref 93, .int (sF h 31 3)] h) (fun x2 h1 => ob (rAt h1 38 (x0_1 - x2)) (fun x3 => if x3 = 0 then kV (mS true (d - 1) 49 [.ref 31, .int (1 : Int32), .int (31 : Int32), .int x0_2] h1) (fun h6 => ob (rSet h6 38 (x0_1 - x2) (1 : Int32)) (fun h7 => some (.inl none, h7))) else kV (mS true (d - 1) 49 [.ref 31, .int (0 : Int32), .int (31 : Int32), .int x0_2] h1) (fun h4 => ob (rSet h4 38 (x0_1 - x2) (1 : Int32)) (fun h5 => some (.inl none, h5))))) := by
  obtain ⟨d, rfl⟩ : ∃ e, d = e + 4 := ⟨d - 4, by omega⟩
  show evS true (d + 4) 60 0 [(0, .ref 31), (1, .int x0_1), (2, .int x0_2)] [] h = _
  refine (es_st 2 (pc' := 4) (L' := [(0, .ref 31), (1, .int x0_1), (2, .int x0_2)]) (S' := [.int (sF h 31 2)]) (h' := h) rfl).trans ?_
  refine (zs_ne (t := 8) rfl rfl rfl).trans (if_cg ?_ ?_)
  · exact es_fin rfl rfl rfl
  · refine (es_st 5 (pc' := 17) (L' := [(0, .ref 31), (1, .int x0_1), (2, .int x0_2)]) (S' := [.int (sF h 31 3), .ref 93, .int x0_1]) (h' := h) rfl).trans ?_
    refine (es_cI (b := true) (k' := 134) (pc' := 20) (as := [.ref 93, .int (sF h 31 3)]) (S' := [.int x0_1]) (L' := [(0, .ref 31), (1, .int x0_1), (2, .int x0_2)]) (h' := h) rfl rfl rfl rfl rfl).trans (kI_cg fun x2 h1 => ?_)
    refine (es_st 6 (pc' := 28) (L' := [(3, .int (x0_1 - x2)), (0, .ref 31), (1, .int x0_1), (2, .int x0_2)]) (S' := [.int (x0_1 - x2), .ref 38, .ref 31]) (h' := h1) rfl).trans ?_
    refine (es_ob (o := rAt h1 38 (x0_1 - x2)) (pc' := 31) (L' := [(3, .int (x0_1 - x2)), (0, .ref 31), (1, .int x0_1), (2, .int x0_2)]) (S' := fun z => [.int z, .ref 31]) (h' := fun z => h1) rfl rfl rfl).trans (ob_cg fun x3 => ?_)
    refine (zs_ne (t := 38) rfl rfl rfl).trans (if_cg ?_ ?_)
    · refine (es_st 4 (pc' := 42) (L' := [(3, .int (x0_1 - x2)), (0, .ref 31), (1, .int x0_1), (2, .int x0_2)]) (S' := [.int x0_2, .int (31 : Int32), .int (1 : Int32), .ref 31]) (h' := h1) rfl).trans ?_
      refine (es_cV (b := true) (k' := 49) (pc' := 45) (as := [.ref 31, .int (1 : Int32), .int (31 : Int32), .int x0_2]) (S' := []) (L' := [(3, .int (x0_1 - x2)), (0, .ref 31), (1, .int x0_1), (2, .int x0_2)]) (h' := h1) rfl rfl rfl rfl rfl).trans (kV_cg fun h6 => ?_)
      refine (es_st 4 (pc' := 51) (L' := [(3, .int (x0_1 - x2)), (0, .ref 31), (1, .int x0_1), (2, .int x0_2)]) (S' := [.int (1 : Int32), .int (x0_1 - x2), .ref 38]) (h' := h6) rfl).trans ?_
      refine (es_ob (o := rSet h6 38 (x0_1 - x2) (1 : Int32)) (pc' := 54) (L' := [(3, .int (x0_1 - x2)), (0, .ref 31), (1, .int x0_1), (2, .int x0_2)]) (S' := fun z => []) (h' := fun z => z) rfl rfl rfl).trans (ob_cg fun h7 => ?_)
      exact es_fin rfl rfl rfl
    · refine (es_st 3 (pc' := 42) (L' := [(3, .int (x0_1 - x2)), (0, .ref 31), (1, .int x0_1), (2, .int x0_2)]) (S' := [.int x0_2, .int (31 : Int32), .int (0 : Int32), .ref 31]) (h' := h1) rfl).trans ?_
      refine (es_cV (b := true) (k' := 49) (pc' := 45) (as := [.ref 31, .int (0 : Int32), .int (31 : Int32), .int x0_2]) (S' := []) (L' := [(3, .int (x0_1 - x2)), (0, .ref 31), (1, .int x0_1), (2, .int x0_2)]) (h' := h1) rfl rfl rfl rfl rfl).trans (kV_cg fun h4 => ?_)
      refine (es_st 4 (pc' := 51) (L' := [(3, .int (x0_1 - x2)), (0, .ref 31), (1, .int x0_1), (2, .int x0_2)]) (S' := [.int (1 : Int32), .int (x0_1 - x2), .ref 38]) (h' := h4) rfl).trans ?_
      refine (es_ob (o := rSet h4 38 (x0_1 - x2) (1 : Int32)) (pc' := 54) (L' := [(3, .int (x0_1 - x2)), (0, .ref 31), (1, .int x0_1), (2, .int x0_2)]) (S' := fun z => []) (h' := fun z => z) rfl rfl rfl).trans (ob_cg fun h5 => ?_)
      exact es_fin rfl rfl rfl
theorem sX3_exp_0 (d : Nat) (hd : 4 ≤ d) (h : SG) : mS true d 61 [.ref 31] h = evS true d 61 10 [(0, .ref 31), (1, .int (Int32.ofNat (sW h 32).length)), (2, .int (1 : Int32))] [] h := by
  obtain ⟨d, rfl⟩ : ∃ e, d = e + 4 := ⟨d - 4, by omega⟩
  show evS true (d + 4) 61 0 [(0, .ref 31)] [] h = _
  refine (es_st 6 (pc' := 10) (L' := [(2, .int (1 : Int32)), (1, .int (Int32.ofNat (sW h 32).length)), (0, .ref 31)]) (S' := []) (h' := h) rfl).trans ?_
  exact es_cut rfl rfl rfl
theorem sX3_exp_10 (d : Nat) (hd : 4 ≤ d) (h : SG) (x0_1 : Int32) (x0_2 : Int32) : evS true d 61 10 [(0, .ref 31), (1, .int x0_1), (2, .int x0_2)] [] h = if x0_2 = 0 then evS true d 61 170 [(0, .ref 31), (1, .int x0_1)] [] h else evS true d 61 14 [(0, .ref 31), (1, .int x0_1)] [] h := by
  obtain ⟨d, rfl⟩ : ∃ e, d = e + 4 := ⟨d - 4, by omega⟩
  refine (es_st 1 (pc' := 11) (L' := [(0, .ref 31), (1, .int x0_1), (2, .int x0_2)]) (S' := [.int x0_2]) (h' := h) rfl).trans ?_
  refine (zs_eq (t := 170) rfl rfl rfl).trans (if_cg ?_ ?_)
  · exact es_cut rfl rfl rfl
  · exact es_cut rfl rfl rfl
theorem sX3_exp_14 (d : Nat) (hd : 4 ≤ d) (h : SG) (x0_1 : Int32) : evS true d 61 14 [(0, .ref 31), (1, .int x0_1)] [] h = kI (mS true (d - 1) 62 [.int (sF h 27 6)] h) (fun x2 h1 => if x2 = 0 then kV (mS true (d - 1) 64 [.ref 31] h1) (fun h3 => evS true d 61 54 [(0, .ref 31), (1, .int x0_1)] [] h3) else kV (mS true (d - 1) 63 [.ref 31, .int (sF h1 27 6), .int (11 : Int32)] h1) (fun h4 => kV (mS true (d - 1) 30 [.ref 27] h4) (fun h5 => evS true d 61 14 [(0, .ref 31), (1, .int x0_1)] [] h5))) := by
  obtain ⟨d, rfl⟩ : ∃ e, d = e + 4 := ⟨d - 4, by omega⟩
  refine (es_st 3 (pc' := 21) (L' := [(0, .ref 31), (1, .int x0_1)]) (S' := [.int (sF h 27 6)]) (h' := h) rfl).trans ?_
  refine (es_cI (b := true) (k' := 62) (pc' := 24) (as := [.int (sF h 27 6)]) (S' := []) (L' := [(0, .ref 31), (1, .int x0_1)]) (h' := h) rfl rfl rfl rfl rfl).trans (kI_cg fun x2 h1 => ?_)
  refine (zs_eq (t := 50) rfl rfl rfl).trans (if_cg ?_ ?_)
  · refine (es_st 1 (pc' := 51) (L' := [(0, .ref 31), (1, .int x0_1)]) (S' := [.ref 31]) (h' := h1) rfl).trans ?_
    refine (es_cV (b := true) (k' := 64) (pc' := 54) (as := [.ref 31]) (S' := []) (L' := [(0, .ref 31), (1, .int x0_1)]) (h' := h1) rfl rfl rfl rfl rfl).trans (kV_cg fun h3 => ?_)
    exact es_cut rfl rfl rfl
  · refine (es_st 5 (pc' := 37) (L' := [(0, .ref 31), (1, .int x0_1)]) (S' := [.int (11 : Int32), .int (sF h1 27 6), .ref 31]) (h' := h1) rfl).trans ?_
    refine (es_cV (b := true) (k' := 63) (pc' := 40) (as := [.ref 31, .int (sF h1 27 6), .int (11 : Int32)]) (S' := []) (L' := [(0, .ref 31), (1, .int x0_1)]) (h' := h1) rfl rfl rfl rfl rfl).trans (kV_cg fun h4 => ?_)
    refine (es_st 2 (pc' := 44) (L' := [(0, .ref 31), (1, .int x0_1)]) (S' := [.ref 27]) (h' := h4) rfl).trans ?_
    refine (es_cV (b := true) (k' := 30) (pc' := 47) (as := [.ref 27]) (S' := []) (L' := [(0, .ref 31), (1, .int x0_1)]) (h' := h4) rfl rfl rfl rfl rfl).trans (kV_cg fun h5 => ?_)
    refine (es_st 1 (pc' := 14) (L' := [(0, .ref 31), (1, .int x0_1)]) (S' := []) (h' := h5) rfl).trans ?_
    exact es_cut rfl rfl rfl
theorem sX3_exp_54 (d : Nat) (hd : 4 ≤ d) (h : SG) (x0_1 : Int32) : evS true d 61 54 [(0, .ref 31), (1, .int x0_1)] [] h = if (Int32.ofNat (sW h 32).length) ≤ x0_1 then kI (mS true (d - 1) 74 [.int (sF h 27 6)] h) (fun x2 h1 => evS true d 61 98 [(0, .ref 31), (1, .int x0_1), (3, .int x2)] [] h1) else ob (rTop h 32) (fun x3 => if (x3 - x3 / (16 : Int32) * (16 : Int32)) = (11 : Int32) then kV (mS true (d - 1) 73 [.ref 31] h) (fun h6 => evS true d 61 54 [(0, .ref 31), (1, .int x0_1)] [] h6) else kI (mS true (d - 1) 74 [.int (sF h 27 6)] h) (fun x5 h4 => evS true d 61 98 [(0, .ref 31), (1, .int x0_1), (3, .int x5)] [] h4)) := by
  obtain ⟨d, rfl⟩ : ∃ e, d = e + 4 := ⟨d - 4, by omega⟩
  refine (es_st 4 (pc' := 62) (L' := [(0, .ref 31), (1, .int x0_1)]) (S' := [.int x0_1, .int (Int32.ofNat (sW h 32).length)]) (h' := h) rfl).trans ?_
  refine (is_le (t := 87) rfl rfl rfl).trans (if_cg ?_ ?_)
  · refine (es_st 3 (pc' := 94) (L' := [(0, .ref 31), (1, .int x0_1)]) (S' := [.int (sF h 27 6)]) (h' := h) rfl).trans ?_
    refine (es_cI (b := true) (k' := 74) (pc' := 97) (as := [.int (sF h 27 6)]) (S' := []) (L' := [(0, .ref 31), (1, .int x0_1)]) (h' := h) rfl rfl rfl rfl rfl).trans (kI_cg fun x2 h1 => ?_)
    refine (es_st 1 (pc' := 98) (L' := [(3, .int x2), (0, .ref 31), (1, .int x0_1)]) (S' := []) (h' := h1) rfl).trans ?_
    exact es_cut rfl rfl rfl
  · refine (es_st 2 (pc' := 69) (L' := [(0, .ref 31), (1, .int x0_1)]) (S' := [.ref 32]) (h' := h) rfl).trans ?_
    refine (es_ob (o := rTop h 32) (pc' := 72) (L' := [(0, .ref 31), (1, .int x0_1)]) (S' := fun z => [.int z]) (h' := fun z => h) rfl rfl rfl).trans (ob_cg fun x3 => ?_)
    refine (es_st 3 (pc' := 77) (L' := [(0, .ref 31), (1, .int x0_1)]) (S' := [.int (11 : Int32), .int (x3 - x3 / (16 : Int32) * (16 : Int32))]) (h' := h) rfl).trans ?_
    refine (is_ne (t := 87) rfl rfl rfl).trans (if_cg ?_ ?_)
    · refine (es_st 1 (pc' := 81) (L' := [(0, .ref 31), (1, .int x0_1)]) (S' := [.ref 31]) (h' := h) rfl).trans ?_
      refine (es_cV (b := true) (k' := 73) (pc' := 84) (as := [.ref 31]) (S' := []) (L' := [(0, .ref 31), (1, .int x0_1)]) (h' := h) rfl rfl rfl rfl rfl).trans (kV_cg fun h6 => ?_)
      refine (es_st 1 (pc' := 54) (L' := [(0, .ref 31), (1, .int x0_1)]) (S' := []) (h' := h6) rfl).trans ?_
      exact es_cut rfl rfl rfl
    · refine (es_st 3 (pc' := 94) (L' := [(0, .ref 31), (1, .int x0_1)]) (S' := [.int (sF h 27 6)]) (h' := h) rfl).trans ?_
      refine (es_cI (b := true) (k' := 74) (pc' := 97) (as := [.int (sF h 27 6)]) (S' := []) (L' := [(0, .ref 31), (1, .int x0_1)]) (h' := h) rfl rfl rfl rfl rfl).trans (kI_cg fun x5 h4 => ?_)
      refine (es_st 1 (pc' := 98) (L' := [(3, .int x5), (0, .ref 31), (1, .int x0_1)]) (S' := []) (h' := h4) rfl).trans ?_
      exact es_cut rfl rfl rfl
theorem sX3_exp_98 (d : Nat) (hd : 4 ≤ d) (h : SG) (x0_1 : Int32) (x0_3 : Int32) : evS true d 61 98 [(0, .ref 31), (1, .int x0_1), (3, .int x0_3)] [] h = if x0_3 ≤ 0 then if x0_3 ≤ 0 then evS true d 61 143 [(0, .ref 31), (1, .int x0_1), (3, .int x0_3)] [.int (0 : Int32)] h else evS true d 61 143 [(0, .ref 31), (1, .int x0_1), (3, .int x0_3)] [.int (1 : Int32)] h else if (Int32.ofNat (sW h 32).length) ≤ x0_1 then if x0_3 ≤ 0 then evS true d 61 143 [(0, .ref 31), (1, .int x0_1), (3, .int x0_3)] [.int (0 : Int32)] h else evS true d 61 143 [(0, .ref 31), (1, .int x0_1), (3, .int x0_3)] [.int (1 : Int32)] h else ob (rTop h 32) (fun x1 => if (x1 - x1 / (16 : Int32) * (16 : Int32)) < x0_3 then if x0_3 ≤ 0 then evS true d 61 143 [(0, .ref 31), (1, .int x0_1), (3, .int x0_3)] [.int (0 : Int32)] h else evS true d 61 143 [(0, .ref 31), (1, .int x0_1), (3, .int x0_3)] [.int (1 : Int32)] h else kV (mS true (d - 1) 73 [.ref 31] h) (fun h2 => evS true d 61 98 [(0, .ref 31), (1, .int x0_1), (3, .int x0_3)] [] h2)) := by
  obtain ⟨d, rfl⟩ : ∃ e, d = e + 4 := ⟨d - 4, by omega⟩
  refine (es_st 1 (pc' := 99) (L' := [(0, .ref 31), (1, .int x0_1), (3, .int x0_3)]) (S' := [.int x0_3]) (h' := h) rfl).trans ?_
  refine (zs_le (t := 134) rfl rfl rfl).trans (if_cg ?_ ?_)
  · refine (es_st 1 (pc' := 135) (L' := [(0, .ref 31), (1, .int x0_1), (3, .int x0_3)]) (S' := [.int x0_3]) (h' := h) rfl).trans ?_
    refine (zs_le (t := 142) rfl rfl rfl).trans (if_cg ?_ ?_)
    · refine (es_st 1 (pc' := 143) (L' := [(0, .ref 31), (1, .int x0_1), (3, .int x0_3)]) (S' := [.int (0 : Int32)]) (h' := h) rfl).trans ?_
      exact es_cut rfl rfl rfl
    · refine (es_st 2 (pc' := 143) (L' := [(0, .ref 31), (1, .int x0_1), (3, .int x0_3)]) (S' := [.int (1 : Int32)]) (h' := h) rfl).trans ?_
      exact es_cut rfl rfl rfl
  · refine (es_st 4 (pc' := 110) (L' := [(0, .ref 31), (1, .int x0_1), (3, .int x0_3)]) (S' := [.int x0_1, .int (Int32.ofNat (sW h 32).length)]) (h' := h) rfl).trans ?_
    refine (is_le (t := 134) rfl rfl rfl).trans (if_cg ?_ ?_)
    · refine (es_st 1 (pc' := 135) (L' := [(0, .ref 31), (1, .int x0_1), (3, .int x0_3)]) (S' := [.int x0_3]) (h' := h) rfl).trans ?_
      refine (zs_le (t := 142) rfl rfl rfl).trans (if_cg ?_ ?_)
      · refine (es_st 1 (pc' := 143) (L' := [(0, .ref 31), (1, .int x0_1), (3, .int x0_3)]) (S' := [.int (0 : Int32)]) (h' := h) rfl).trans ?_
        exact es_cut rfl rfl rfl
      · refine (es_st 2 (pc' := 143) (L' := [(0, .ref 31), (1, .int x0_1), (3, .int x0_3)]) (S' := [.int (1 : Int32)]) (h' := h) rfl).trans ?_
        exact es_cut rfl rfl rfl
    · refine (es_st 2 (pc' := 117) (L' := [(0, .ref 31), (1, .int x0_1), (3, .int x0_3)]) (S' := [.ref 32]) (h' := h) rfl).trans ?_
      refine (es_ob (o := rTop h 32) (pc' := 120) (L' := [(0, .ref 31), (1, .int x0_1), (3, .int x0_3)]) (S' := fun z => [.int z]) (h' := fun z => h) rfl rfl rfl).trans (ob_cg fun x1 => ?_)
      refine (es_st 3 (pc' := 124) (L' := [(0, .ref 31), (1, .int x0_1), (3, .int x0_3)]) (S' := [.int x0_3, .int (x1 - x1 / (16 : Int32) * (16 : Int32))]) (h' := h) rfl).trans ?_
      refine (is_lt (t := 134) rfl rfl rfl).trans (if_cg ?_ ?_)
      · refine (es_st 1 (pc' := 135) (L' := [(0, .ref 31), (1, .int x0_1), (3, .int x0_3)]) (S' := [.int x0_3]) (h' := h) rfl).trans ?_
        refine (zs_le (t := 142) rfl rfl rfl).trans (if_cg ?_ ?_)
        · refine (es_st 1 (pc' := 143) (L' := [(0, .ref 31), (1, .int x0_1), (3, .int x0_3)]) (S' := [.int (0 : Int32)]) (h' := h) rfl).trans ?_
          exact es_cut rfl rfl rfl
        · refine (es_st 2 (pc' := 143) (L' := [(0, .ref 31), (1, .int x0_1), (3, .int x0_3)]) (S' := [.int (1 : Int32)]) (h' := h) rfl).trans ?_
          exact es_cut rfl rfl rfl
      · refine (es_st 1 (pc' := 128) (L' := [(0, .ref 31), (1, .int x0_1), (3, .int x0_3)]) (S' := [.ref 31]) (h' := h) rfl).trans ?_
        refine (es_cV (b := true) (k' := 73) (pc' := 131) (as := [.ref 31]) (S' := []) (L' := [(0, .ref 31), (1, .int x0_1), (3, .int x0_3)]) (h' := h) rfl rfl rfl rfl rfl).trans (kV_cg fun h2 => ?_)
        refine (es_st 1 (pc' := 98) (L' := [(0, .ref 31), (1, .int x0_1), (3, .int x0_3)]) (S' := []) (h' := h2) rfl).trans ?_
        exact es_cut rfl rfl rfl
theorem sX3_exp_143 (d : Nat) (hd : 4 ≤ d) (h : SG) (x0_1 : Int32) (x0_3 : Int32) (s0 : Int32) : evS true d 61 143 [(0, .ref 31), (1, .int x0_1), (3, .int x0_3)] [.int s0] h = if s0 = 0 then evS true d 61 10 [(0, .ref 31), (1, .int x0_1), (2, .int s0)] [] h else kV (mS true (d - 1) 63 [.ref 31, .int (sF h 27 6), .int x0_3] h) (fun h1 => kV (mS true (d - 1) 30 [.ref 27] h1) (fun h2 => evS true d 61 10 [(0, .ref 31), (1, .int x0_1), (2, .int s0)] [] h2)) := by
  obtain ⟨d, rfl⟩ : ∃ e, d = e + 4 := ⟨d - 4, by omega⟩
  refine (es_st 2 (pc' := 145) (L' := [(2, .int s0), (0, .ref 31), (1, .int x0_1), (3, .int x0_3)]) (S' := [.int s0]) (h' := h) rfl).trans ?_
  refine (zs_eq (t := 167) rfl rfl rfl).trans (if_cg ?_ ?_)
  · refine (es_st 1 (pc' := 10) (L' := [(2, .int s0), (0, .ref 31), (1, .int x0_1), (3, .int x0_3)]) (S' := []) (h' := h) rfl).trans ?_
    exact es_cut rfl rfl rfl
  · refine (es_st 5 (pc' := 157) (L' := [(2, .int s0), (0, .ref 31), (1, .int x0_1), (3, .int x0_3)]) (S' := [.int x0_3, .int (sF h 27 6), .ref 31]) (h' := h) rfl).trans ?_
    refine (es_cV (b := true) (k' := 63) (pc' := 160) (as := [.ref 31, .int (sF h 27 6), .int x0_3]) (S' := []) (L' := [(2, .int s0), (0, .ref 31), (1, .int x0_1), (3, .int x0_3)]) (h' := h) rfl rfl rfl rfl rfl).trans (kV_cg fun h1 => ?_)
    refine (es_st 2 (pc' := 164) (L' := [(2, .int s0), (0, .ref 31), (1, .int x0_1), (3, .int x0_3)]) (S' := [.ref 27]) (h' := h1) rfl).trans ?_
    refine (es_cV (b := true) (k' := 30) (pc' := 167) (as := [.ref 27]) (S' := []) (L' := [(2, .int s0), (0, .ref 31), (1, .int x0_1), (3, .int x0_3)]) (h' := h1) rfl rfl rfl rfl rfl).trans (kV_cg fun h2 => ?_)
    refine (es_st 1 (pc' := 10) (L' := [(2, .int s0), (0, .ref 31), (1, .int x0_1), (3, .int x0_3)]) (S' := []) (h' := h2) rfl).trans ?_
    exact es_cut rfl rfl rfl
theorem sX3_exp_170 (d : Nat) (hd : 4 ≤ d) (h : SG) (x0_1 : Int32) : evS true d 61 170 [(0, .ref 31), (1, .int x0_1)] [] h = if (Int32.ofNat (sW h 32).length) ≤ x0_1 then if (sF h 27 6) = (63 : Int32) then kV (mS true (d - 1) 75 [.ref 31] h) (fun h1 => some (.inl none, h1)) else some (.inl none, h) else kV (mS true (d - 1) 73 [.ref 31] h) (fun h2 => evS true d 61 170 [(0, .ref 31), (1, .int x0_1)] [] h2) := by
  obtain ⟨d, rfl⟩ : ∃ e, d = e + 4 := ⟨d - 4, by omega⟩
  refine (es_st 4 (pc' := 178) (L' := [(0, .ref 31), (1, .int x0_1)]) (S' := [.int x0_1, .int (Int32.ofNat (sW h 32).length)]) (h' := h) rfl).trans ?_
  refine (is_le (t := 188) rfl rfl rfl).trans (if_cg ?_ ?_)
  · refine (es_st 4 (pc' := 197) (L' := [(0, .ref 31), (1, .int x0_1)]) (S' := [.int (63 : Int32), .int (sF h 27 6)]) (h' := h) rfl).trans ?_
    refine (is_ne (t := 204) rfl rfl rfl).trans (if_cg ?_ ?_)
    · refine (es_st 1 (pc' := 201) (L' := [(0, .ref 31), (1, .int x0_1)]) (S' := [.ref 31]) (h' := h) rfl).trans ?_
      refine (es_cV (b := true) (k' := 75) (pc' := 204) (as := [.ref 31]) (S' := []) (L' := [(0, .ref 31), (1, .int x0_1)]) (h' := h) rfl rfl rfl rfl rfl).trans (kV_cg fun h1 => ?_)
      exact es_fin rfl rfl rfl
    · exact es_fin rfl rfl rfl
  · refine (es_st 1 (pc' := 182) (L' := [(0, .ref 31), (1, .int x0_1)]) (S' := [.ref 31]) (h' := h) rfl).trans ?_
    refine (es_cV (b := true) (k' := 73) (pc' := 185) (as := [.ref 31]) (S' := []) (L' := [(0, .ref 31), (1, .int x0_1)]) (h' := h) rfl rfl rfl rfl rfl).trans (kV_cg fun h2 => ?_)
    refine (es_st 1 (pc' := 170) (L' := [(0, .ref 31), (1, .int x0_1)]) (S' := []) (h' := h2) rfl).trans ?_
    exact es_cut rfl rfl rfl
theorem sX3_isUnary_0 (d : Nat) (h : SG) (x0_0 : Int32) : mS true d 62 [.int x0_0] h = if x0_0 = (126 : Int32) then some (.inl (some (.int (1 : Int32))), h) else if x0_0 = (33 : Int32) then some (.inl (some (.int (1 : Int32))), h) else if x0_0 = (45 : Int32) then some (.inl (some (.int (1 : Int32))), h) else if x0_0 = (38 : Int32) then some (.inl (some (.int (1 : Int32))), h) else if x0_0 = (124 : Int32) then some (.inl (some (.int (1 : Int32))), h) else if x0_0 = (94 : Int32) then some (.inl (some (.int (1 : Int32))), h) else some (.inl (some (.int (0 : Int32))), h) := by
  show evS true d 62 0 [(0, .int x0_0)] [] h = _
  refine (es_st 2 (pc' := 3) (L' := [(0, .int x0_0)]) (S' := [.int (126 : Int32), .int x0_0]) (h' := h) rfl).trans ?_
  refine (is_eq (t := 36) rfl rfl rfl).trans (if_cg ?_ ?_)
  · refine (es_st 2 (pc' := 41) (L' := [(0, .int x0_0)]) (S' := [.int (1 : Int32)]) (h' := h) rfl).trans ?_
    exact es_fin rfl rfl rfl
  · refine (es_st 2 (pc' := 9) (L' := [(0, .int x0_0)]) (S' := [.int (33 : Int32), .int x0_0]) (h' := h) rfl).trans ?_
    refine (is_eq (t := 36) rfl rfl rfl).trans (if_cg ?_ ?_)
    · refine (es_st 2 (pc' := 41) (L' := [(0, .int x0_0)]) (S' := [.int (1 : Int32)]) (h' := h) rfl).trans ?_
      exact es_fin rfl rfl rfl
    · refine (es_st 2 (pc' := 15) (L' := [(0, .int x0_0)]) (S' := [.int (45 : Int32), .int x0_0]) (h' := h) rfl).trans ?_
      refine (is_eq (t := 36) rfl rfl rfl).trans (if_cg ?_ ?_)
      · refine (es_st 2 (pc' := 41) (L' := [(0, .int x0_0)]) (S' := [.int (1 : Int32)]) (h' := h) rfl).trans ?_
        exact es_fin rfl rfl rfl
      · refine (es_st 2 (pc' := 21) (L' := [(0, .int x0_0)]) (S' := [.int (38 : Int32), .int x0_0]) (h' := h) rfl).trans ?_
        refine (is_eq (t := 36) rfl rfl rfl).trans (if_cg ?_ ?_)
        · refine (es_st 2 (pc' := 41) (L' := [(0, .int x0_0)]) (S' := [.int (1 : Int32)]) (h' := h) rfl).trans ?_
          exact es_fin rfl rfl rfl
        · refine (es_st 2 (pc' := 27) (L' := [(0, .int x0_0)]) (S' := [.int (124 : Int32), .int x0_0]) (h' := h) rfl).trans ?_
          refine (is_eq (t := 36) rfl rfl rfl).trans (if_cg ?_ ?_)
          · refine (es_st 2 (pc' := 41) (L' := [(0, .int x0_0)]) (S' := [.int (1 : Int32)]) (h' := h) rfl).trans ?_
            exact es_fin rfl rfl rfl
          · refine (es_st 2 (pc' := 33) (L' := [(0, .int x0_0)]) (S' := [.int (94 : Int32), .int x0_0]) (h' := h) rfl).trans ?_
            refine (is_ne (t := 40) rfl rfl rfl).trans (if_cg ?_ ?_)
            · refine (es_st 2 (pc' := 41) (L' := [(0, .int x0_0)]) (S' := [.int (1 : Int32)]) (h' := h) rfl).trans ?_
              exact es_fin rfl rfl rfl
            · refine (es_st 1 (pc' := 41) (L' := [(0, .int x0_0)]) (S' := [.int (0 : Int32)]) (h' := h) rfl).trans ?_
              exact es_fin rfl rfl rfl
theorem sX3_wait_0 (d : Nat) (hd : 4 ≤ d) (h : SG) (x0_1 : Int32) (x0_2 : Int32) : mS true d 63 [.ref 31, .int x0_1, .int x0_2] h = ob (rAdd h 32 (((16 : Int32) * x0_1) + x0_2)) (fun q1 => ob (rAdd q1.2 34 (sF q1.2 27 7)) (fun q2 => some (.inl none, q2.2))) := by
  obtain ⟨d, rfl⟩ : ∃ e, d = e + 4 := ⟨d - 4, by omega⟩
  show evS true (d + 4) 63 0 [(0, .ref 31), (1, .int x0_1), (2, .int x0_2)] [] h = _
  refine (es_st 7 (pc' := 10) (L' := [(0, .ref 31), (1, .int x0_1), (2, .int x0_2)]) (S' := [.int (((16 : Int32) * x0_1) + x0_2), .ref 32]) (h' := h) rfl).trans ?_
  refine (es_ob (o := rAdd h 32 (((16 : Int32) * x0_1) + x0_2)) (pc' := 13) (L' := [(0, .ref 31), (1, .int x0_1), (2, .int x0_2)]) (S' := fun z => [.int z.1]) (h' := fun z => z.2) rfl rfl rfl).trans (ob_cg fun q1 => ?_)
  refine (es_st 6 (pc' := 25) (L' := [(0, .ref 31), (1, .int x0_1), (2, .int x0_2)]) (S' := [.int (sF q1.2 27 7), .ref 34]) (h' := q1.2) rfl).trans ?_
  refine (es_ob (o := rAdd q1.2 34 (sF q1.2 27 7)) (pc' := 28) (L' := [(0, .ref 31), (1, .int x0_1), (2, .int x0_2)]) (S' := fun z => [.int z.1]) (h' := fun z => z.2) rfl rfl rfl).trans (ob_cg fun q2 => ?_)
  refine (es_st 1 (pc' := 29) (L' := [(0, .ref 31), (1, .int x0_1), (2, .int x0_2)]) (S' := []) (h' := q2.2) rfl).trans ?_
  exact es_fin rfl rfl rfl
theorem sX3_primary_0 (d : Nat) (hd : 1 ≤ d) (h : SG) : mS true d 64 [.ref 31] h = if (sF h 27 6) = (40 : Int32) then kV (mS true (d - 1) 71 [.ref 31] h) (fun h1 => some (.inl none, h1)) else if (sF h 27 6) = (123 : Int32) then kV (mS true (d - 1) 72 [.ref 31] h) (fun h2 => some (.inl none, h2)) else if (sF h 27 6) = (257 : Int32) then kV (mS true (d - 1) 68 [.ref 31] h) (fun h3 => some (.inl none, h3)) else if (sF h 27 6) = (259 : Int32) then kV (mS true (d - 1) 65 [.ref 31, .int (0 : Int32), .int (sF h 27 10)] h) (fun h4 => kV (mS true (d - 1) 65 [.ref 31, .int (sJ h4 27 9).toInt32, .int (lus (sJ h4 27 9) (32 : Int32)).toInt32] h4) (fun h5 => kV (mS true (d - 1) 67 [.ref 31, .int (sF h5 27 10)] h5) (fun h6 => kV (mS true (d - 1) 30 [.ref 27] h6) (fun h7 => some (.inl none, h7))))) else kR (mS true (d - 1) 50 [.ref 31, .int (2 : Int32), .int (sF h 27 7)] h) (fun a9 h8 => ckS (Nat.beq a9 29) (some (.inr 0, h8))) := by
  obtain ⟨d, rfl⟩ : ∃ e, d = e + 1 := ⟨d - 1, by omega⟩
  show evS true (d + 1) 64 0 [(0, .ref 31)] [] h = _
  refine (es_st 3 (pc' := 7) (L' := [(0, .ref 31)]) (S' := [.int (sF h 27 6)]) (h' := h) rfl).trans ?_
  refine (es_sw (a := (sF h 27 6)) (cs := [((40 : Int32), 111), ((123 : Int32), 118), ((257 : Int32), 104), ((259 : Int32), 48)]) (df := 125) (L' := [(0, .ref 31)]) (S' := []) rfl rfl rfl).trans ?_
  refine ss_cons.trans (if_cg ?_ ?_)
  · refine (es_st 1 (pc' := 112) (L' := [(0, .ref 31)]) (S' := [.ref 31]) (h' := h) rfl).trans ?_
    refine (es_cV (b := true) (k' := 71) (pc' := 115) (as := [.ref 31]) (S' := []) (L' := [(0, .ref 31)]) (h' := h) rfl rfl rfl rfl rfl).trans (kV_cg fun h1 => ?_)
    refine (es_st 1 (pc' := 138) (L' := [(0, .ref 31)]) (S' := []) (h' := h1) rfl).trans ?_
    exact es_fin rfl rfl rfl
  · refine ss_cons.trans (if_cg ?_ ?_)
    · refine (es_st 1 (pc' := 119) (L' := [(0, .ref 31)]) (S' := [.ref 31]) (h' := h) rfl).trans ?_
      refine (es_cV (b := true) (k' := 72) (pc' := 122) (as := [.ref 31]) (S' := []) (L' := [(0, .ref 31)]) (h' := h) rfl rfl rfl rfl rfl).trans (kV_cg fun h2 => ?_)
      refine (es_st 1 (pc' := 138) (L' := [(0, .ref 31)]) (S' := []) (h' := h2) rfl).trans ?_
      exact es_fin rfl rfl rfl
    · refine ss_cons.trans (if_cg ?_ ?_)
      · refine (es_st 1 (pc' := 105) (L' := [(0, .ref 31)]) (S' := [.ref 31]) (h' := h) rfl).trans ?_
        refine (es_cV (b := true) (k' := 68) (pc' := 108) (as := [.ref 31]) (S' := []) (L' := [(0, .ref 31)]) (h' := h) rfl rfl rfl rfl rfl).trans (kV_cg fun h3 => ?_)
        refine (es_st 1 (pc' := 138) (L' := [(0, .ref 31)]) (S' := []) (h' := h3) rfl).trans ?_
        exact es_fin rfl rfl rfl
      · refine ss_cons.trans (if_cg ?_ ?_)
        · refine (es_st 5 (pc' := 57) (L' := [(0, .ref 31)]) (S' := [.int (sF h 27 10), .int (0 : Int32), .ref 31]) (h' := h) rfl).trans ?_
          refine (es_cV (b := true) (k' := 65) (pc' := 60) (as := [.ref 31, .int (0 : Int32), .int (sF h 27 10)]) (S' := []) (L' := [(0, .ref 31)]) (h' := h) rfl rfl rfl rfl rfl).trans (kV_cg fun h4 => ?_)
          refine (es_st 11 (pc' := 80) (L' := [(0, .ref 31)]) (S' := [.int (lus (sJ h4 27 9) (32 : Int32)).toInt32, .int (sJ h4 27 9).toInt32, .ref 31]) (h' := h4) rfl).trans ?_
          refine (es_cV (b := true) (k' := 65) (pc' := 83) (as := [.ref 31, .int (sJ h4 27 9).toInt32, .int (lus (sJ h4 27 9) (32 : Int32)).toInt32]) (S' := []) (L' := [(0, .ref 31)]) (h' := h4) rfl rfl rfl rfl rfl).trans (kV_cg fun h5 => ?_)
          refine (es_st 4 (pc' := 91) (L' := [(0, .ref 31)]) (S' := [.int (sF h5 27 10), .ref 31]) (h' := h5) rfl).trans ?_
          refine (es_cV (b := true) (k' := 67) (pc' := 94) (as := [.ref 31, .int (sF h5 27 10)]) (S' := []) (L' := [(0, .ref 31)]) (h' := h5) rfl rfl rfl rfl rfl).trans (kV_cg fun h6 => ?_)
          refine (es_st 2 (pc' := 98) (L' := [(0, .ref 31)]) (S' := [.ref 27]) (h' := h6) rfl).trans ?_
          refine (es_cV (b := true) (k' := 30) (pc' := 101) (as := [.ref 27]) (S' := []) (L' := [(0, .ref 31)]) (h' := h6) rfl rfl rfl rfl rfl).trans (kV_cg fun h7 => ?_)
          refine (es_st 1 (pc' := 138) (L' := [(0, .ref 31)]) (S' := []) (h' := h7) rfl).trans ?_
          exact es_fin rfl rfl rfl
        · refine (es_st 5 (pc' := 134) (L' := [(0, .ref 31)]) (S' := [.int (sF h 27 7), .int (2 : Int32), .ref 31]) (h' := h) rfl).trans ?_
          refine (es_cR (b := true) (k' := 50) (pc' := 137) (as := [.ref 31, .int (2 : Int32), .int (sF h 27 7)]) (S' := []) (L' := [(0, .ref 31)]) (h' := h) rfl rfl rfl rfl rfl).trans (kR_cg fun a9 h8 => ?_)
          exact es_thr rfl rfl rfl
theorem sX3_code_0 (d : Nat) (hd : 1 ≤ d) (h : SG) (x0_1 : Int32) (x0_2 : Int32) : mS true d 65 [.ref 31, .int x0_1, .int x0_2] h = kV (mS true (d - 1) 66 [.ref 31, .int x0_1] h) (fun h1 => kV (mS true (d - 1) 66 [.ref 31, .int x0_2] h1) (fun h2 => some (.inl none, h2))) := by
  obtain ⟨d, rfl⟩ : ∃ e, d = e + 1 := ⟨d - 1, by omega⟩
  show evS true (d + 1) 65 0 [(0, .ref 31), (1, .int x0_1), (2, .int x0_2)] [] h = _
  refine (es_st 2 (pc' := 2) (L' := [(0, .ref 31), (1, .int x0_1), (2, .int x0_2)]) (S' := [.int x0_1, .ref 31]) (h' := h) rfl).trans ?_
  refine (es_cV (b := true) (k' := 66) (pc' := 5) (as := [.ref 31, .int x0_1]) (S' := []) (L' := [(0, .ref 31), (1, .int x0_1), (2, .int x0_2)]) (h' := h) rfl rfl rfl rfl rfl).trans (kV_cg fun h1 => ?_)
  refine (es_st 2 (pc' := 7) (L' := [(0, .ref 31), (1, .int x0_1), (2, .int x0_2)]) (S' := [.int x0_2, .ref 31]) (h' := h1) rfl).trans ?_
  refine (es_cV (b := true) (k' := 66) (pc' := 10) (as := [.ref 31, .int x0_2]) (S' := []) (L' := [(0, .ref 31), (1, .int x0_1), (2, .int x0_2)]) (h' := h1) rfl rfl rfl rfl rfl).trans (kV_cg fun h2 => ?_)
  exact es_fin rfl rfl rfl
theorem sX3_code_2_0 (d : Nat) (hd : 4 ≤ d) (h : SG) (x0_1 : Int32) : mS true d 66 [.ref 31, .int x0_1] h = if (sF h 31 2) = 0 then some (.inl none, h) else ob (rAdd h 102 x0_1) (fun q1 => some (.inl none, q1.2)) := by
  obtain ⟨d, rfl⟩ : ∃ e, d = e + 4 := ⟨d - 4, by omega⟩
  show evS true (d + 4) 66 0 [(0, .ref 31), (1, .int x0_1)] [] h = _
  refine (es_st 2 (pc' := 4) (L' := [(0, .ref 31), (1, .int x0_1)]) (S' := [.int (sF h 31 2)]) (h' := h) rfl).trans ?_
  refine (zs_eq (t := 19) rfl rfl rfl).trans (if_cg ?_ ?_)
  · exact es_fin rfl rfl rfl
  · refine (es_st 4 (pc' := 15) (L' := [(0, .ref 31), (1, .int x0_1)]) (S' := [.int x0_1, .ref 102]) (h' := h) rfl).trans ?_
    refine (es_ob (o := rAdd h 102 x0_1) (pc' := 18) (L' := [(0, .ref 31), (1, .int x0_1)]) (S' := fun z => [.int z.1]) (h' := fun z => z.2) rfl rfl rfl).trans (ob_cg fun q1 => ?_)
    refine (es_st 1 (pc' := 19) (L' := [(0, .ref 31), (1, .int x0_1)]) (S' := []) (h' := q1.2) rfl).trans ?_
    exact es_fin rfl rfl rfl
theorem sX3_wide_0 (d : Nat) (hd : 4 ≤ d) (h : SG) (x0_1 : Int32) : mS true d 67 [.ref 31, .int x0_1] h = if (sF h 31 2) = 0 then some (.inl none, h) else ob (rAdd h 36 x0_1) (fun q1 => some (.inl none, q1.2)) := by
  obtain ⟨d, rfl⟩ : ∃ e, d = e + 4 := ⟨d - 4, by omega⟩
  show evS true (d + 4) 67 0 [(0, .ref 31), (1, .int x0_1)] [] h = _
  refine (es_st 2 (pc' := 4) (L' := [(0, .ref 31), (1, .int x0_1)]) (S' := [.int (sF h 31 2)]) (h' := h) rfl).trans ?_
  refine (zs_eq (t := 16) rfl rfl rfl).trans (if_cg ?_ ?_)
  · exact es_fin rfl rfl rfl
  · refine (es_st 3 (pc' := 12) (L' := [(0, .ref 31), (1, .int x0_1)]) (S' := [.int x0_1, .ref 36]) (h' := h) rfl).trans ?_
    refine (es_ob (o := rAdd h 36 x0_1) (pc' := 15) (L' := [(0, .ref 31), (1, .int x0_1)]) (S' := fun z => [.int z.1]) (h' := fun z => z.2) rfl rfl rfl).trans (ob_cg fun q1 => ?_)
    refine (es_st 1 (pc' := 16) (L' := [(0, .ref 31), (1, .int x0_1)]) (S' := []) (h' := q1.2) rfl).trans ?_
    exact es_fin rfl rfl rfl
theorem sX3_name_0 (d : Nat) (hd : 4 ≤ d) (h : SG) : mS true d 68 [.ref 31] h = kI (mS true (d - 1) 59 [.ref 31, .int (0 : Int32)] h) (fun x2 h1 => if (sF h1 31 2) = 0 then evS true d 68 25 [(0, .ref 31), (1, .int x2)] [.int (0 : Int32)] h1 else kI (mS true (d - 1) 137 [.ref 93, .int x2] h1) (fun x4 h3 => evS true d 68 25 [(0, .ref 31), (1, .int x2)] [.int x4] h3)) := by
  obtain ⟨d, rfl⟩ : ∃ e, d = e + 4 := ⟨d - 4, by omega⟩
  show evS true (d + 4) 68 0 [(0, .ref 31)] [] h = _
  refine (es_st 2 (pc' := 2) (L' := [(0, .ref 31)]) (S' := [.int (0 : Int32), .ref 31]) (h' := h) rfl).trans ?_
  refine (es_cI (b := true) (k' := 59) (pc' := 5) (as := [.ref 31, .int (0 : Int32)]) (S' := []) (L' := [(0, .ref 31)]) (h' := h) rfl rfl rfl rfl rfl).trans (kI_cg fun x2 h1 => ?_)
  refine (es_st 3 (pc' := 10) (L' := [(1, .int x2), (0, .ref 31)]) (S' := [.int (sF h1 31 2)]) (h' := h1) rfl).trans ?_
  refine (zs_eq (t := 24) rfl rfl rfl).trans (if_cg ?_ ?_)
  · refine (es_st 1 (pc' := 25) (L' := [(1, .int x2), (0, .ref 31)]) (S' := [.int (0 : Int32)]) (h' := h1) rfl).trans ?_
    exact es_cut rfl rfl rfl
  · refine (es_st 3 (pc' := 18) (L' := [(1, .int x2), (0, .ref 31)]) (S' := [.int x2, .ref 93]) (h' := h1) rfl).trans ?_
    refine (es_cI (b := true) (k' := 137) (pc' := 21) (as := [.ref 93, .int x2]) (S' := []) (L' := [(1, .int x2), (0, .ref 31)]) (h' := h1) rfl rfl rfl rfl rfl).trans (kI_cg fun x4 h3 => ?_)
    refine (es_st 1 (pc' := 25) (L' := [(1, .int x2), (0, .ref 31)]) (S' := [.int x4]) (h' := h3) rfl).trans ?_
    exact es_cut rfl rfl rfl
theorem sX3_name_25 (d : Nat) (hd : 4 ≤ d) (h : SG) (x0_1 : Int32) (s0 : Int32) : evS true d 68 25 [(0, .ref 31), (1, .int x0_1)] [.int s0] h = kV (mS true (d - 1) 65 [.ref 31, .int (1 : Int32), .int x0_1] h) (fun h1 => kV (mS true (d - 1) 30 [.ref 27] h1) (fun h2 => if (sF h2 27 6) = (91 : Int32) then kV (mS true (d - 1) 69 [.ref 31] h2) (fun h3 => kV (mS true (d - 1) 30 [.ref 27] h3) (fun h4 => if (sF h4 27 6) = (258 : Int32) then kI (mS true (d - 1) 54 [.ref 31] h4) (fun x12 h11 => kI (mS true (d - 1) 45 [.ref 27, .int (58 : Int32)] h11) (fun x14 h13 => if x14 = 0 then evS true d 68 116 [(0, .ref 31), (2, .int s0), (3, .int (sF h2 27 7)), (4, .int x12)] [.int x12] h13 else kI (mS true (d - 1) 54 [.ref 31] h13) (fun x16 h15 => evS true d 68 116 [(0, .ref 31), (2, .int s0), (3, .int (sF h2 27 7)), (4, .int x12)] [.int x16] h15))) else kV (mS true (d - 1) 61 [.ref 31] h4) (fun h5 => kV (mS true (d - 1) 44 [.ref 27, .int (93 : Int32)] (uF h5 31 4 ((sF h5 31 4) - (1 : Int32)))) (fun h6 => kV (mS true (d - 1) 66 [.ref 31, .int (3 : Int32)] h6) (fun h7 => if (sF h7 31 2) = 0 then some (.inl none, h7) else ob (rTake h7 36) (fun q8 => kV (mS true (d - 1) 70 [.ref 31, .int (mxI s0 q8.1)] q8.2) (fun h9 => ob (rAdd h9 36 (1 : Int32)) (fun q10 => some (.inl none, q10.2))))))))) else kV (mS true (d - 1) 67 [.ref 31, .int s0] h2) (fun h17 => some (.inl none, h17)))) := by
  obtain ⟨d, rfl⟩ : ∃ e, d = e + 4 := ⟨d - 4, by omega⟩
  refine (es_st 4 (pc' := 29) (L' := [(2, .int s0), (0, .ref 31), (1, .int x0_1)]) (S' := [.int x0_1, .int (1 : Int32), .ref 31]) (h' := h) rfl).trans ?_
  refine (es_cV (b := true) (k' := 65) (pc' := 32) (as := [.ref 31, .int (1 : Int32), .int x0_1]) (S' := []) (L' := [(2, .int s0), (0, .ref 31), (1, .int x0_1)]) (h' := h) rfl rfl rfl rfl rfl).trans (kV_cg fun h1 => ?_)
  refine (es_st 2 (pc' := 36) (L' := [(2, .int s0), (0, .ref 31), (1, .int x0_1)]) (S' := [.ref 27]) (h' := h1) rfl).trans ?_
  refine (es_cV (b := true) (k' := 30) (pc' := 39) (as := [.ref 27]) (S' := []) (L' := [(2, .int s0), (0, .ref 31), (1, .int x0_1)]) (h' := h1) rfl rfl rfl rfl rfl).trans (kV_cg fun h2 => ?_)
  refine (es_st 4 (pc' := 48) (L' := [(2, .int s0), (0, .ref 31), (1, .int x0_1)]) (S' := [.int (91 : Int32), .int (sF h2 27 6)]) (h' := h2) rfl).trans ?_
  refine (is_eq (t := 57) rfl rfl rfl).trans (if_cg ?_ ?_)
  · refine (es_st 5 (pc' := 66) (L' := [(3, .int (sF h2 27 7)), (2, .int s0), (0, .ref 31), (1, .int x0_1)]) (S' := [.ref 31]) (h' := h2) rfl).trans ?_
    refine (es_cV (b := true) (k' := 69) (pc' := 69) (as := [.ref 31]) (S' := []) (L' := [(3, .int (sF h2 27 7)), (2, .int s0), (0, .ref 31), (1, .int x0_1)]) (h' := h2) rfl rfl rfl rfl rfl).trans (kV_cg fun h3 => ?_)
    refine (es_st 2 (pc' := 73) (L' := [(3, .int (sF h2 27 7)), (2, .int s0), (0, .ref 31), (1, .int x0_1)]) (S' := [.ref 27]) (h' := h3) rfl).trans ?_
    refine (es_cV (b := true) (k' := 30) (pc' := 76) (as := [.ref 27]) (S' := []) (L' := [(3, .int (sF h2 27 7)), (2, .int s0), (0, .ref 31), (1, .int x0_1)]) (h' := h3) rfl rfl rfl rfl rfl).trans (kV_cg fun h4 => ?_)
    refine (es_st 4 (pc' := 86) (L' := [(3, .int (sF h2 27 7)), (2, .int s0), (0, .ref 31), (1, .int x0_1)]) (S' := [.int (258 : Int32), .int (sF h4 27 6)]) (h' := h4) rfl).trans ?_
    refine (is_ne (t := 194) rfl rfl rfl).trans (if_cg ?_ ?_)
    · refine (es_st 1 (pc' := 90) (L' := [(3, .int (sF h2 27 7)), (2, .int s0), (0, .ref 31), (1, .int x0_1)]) (S' := [.ref 31]) (h' := h4) rfl).trans ?_
      refine (es_cI (b := true) (k' := 54) (pc' := 93) (as := [.ref 31]) (S' := []) (L' := [(3, .int (sF h2 27 7)), (2, .int s0), (0, .ref 31), (1, .int x0_1)]) (h' := h4) rfl rfl rfl rfl rfl).trans (kI_cg fun x12 h11 => ?_)
      refine (es_st 4 (pc' := 101) (L' := [(4, .int x12), (3, .int (sF h2 27 7)), (2, .int s0), (0, .ref 31), (1, .int x0_1)]) (S' := [.int (58 : Int32), .ref 27]) (h' := h11) rfl).trans ?_
      refine (es_cI (b := true) (k' := 45) (pc' := 104) (as := [.ref 27, .int (58 : Int32)]) (S' := []) (L' := [(4, .int x12), (3, .int (sF h2 27 7)), (2, .int s0), (0, .ref 31), (1, .int x0_1)]) (h' := h11) rfl rfl rfl rfl rfl).trans (kI_cg fun x14 h13 => ?_)
      refine (zs_eq (t := 114) rfl rfl rfl).trans (if_cg ?_ ?_)
      · refine (es_st 1 (pc' := 116) (L' := [(4, .int x12), (3, .int (sF h2 27 7)), (2, .int s0), (0, .ref 31), (1, .int x0_1)]) (S' := [.int x12]) (h' := h13) rfl).trans ?_
        exact es_cut rfl rfl rfl
      · refine (es_st 1 (pc' := 108) (L' := [(4, .int x12), (3, .int (sF h2 27 7)), (2, .int s0), (0, .ref 31), (1, .int x0_1)]) (S' := [.ref 31]) (h' := h13) rfl).trans ?_
        refine (es_cI (b := true) (k' := 54) (pc' := 111) (as := [.ref 31]) (S' := []) (L' := [(4, .int x12), (3, .int (sF h2 27 7)), (2, .int s0), (0, .ref 31), (1, .int x0_1)]) (h' := h13) rfl rfl rfl rfl rfl).trans (kI_cg fun x16 h15 => ?_)
        refine (es_st 1 (pc' := 116) (L' := [(4, .int x12), (3, .int (sF h2 27 7)), (2, .int s0), (0, .ref 31), (1, .int x0_1)]) (S' := [.int x16]) (h' := h15) rfl).trans ?_
        exact es_cut rfl rfl rfl
    · refine (es_st 1 (pc' := 195) (L' := [(3, .int (sF h2 27 7)), (2, .int s0), (0, .ref 31), (1, .int x0_1)]) (S' := [.ref 31]) (h' := h4) rfl).trans ?_
      refine (es_cV (b := true) (k' := 61) (pc' := 198) (as := [.ref 31]) (S' := []) (L' := [(3, .int (sF h2 27 7)), (2, .int s0), (0, .ref 31), (1, .int x0_1)]) (h' := h4) rfl rfl rfl rfl rfl).trans (kV_cg fun h5 => ?_)
      refine (es_st 9 (pc' := 214) (L' := [(3, .int (sF h2 27 7)), (2, .int s0), (0, .ref 31), (1, .int x0_1)]) (S' := [.int (93 : Int32), .ref 27]) (h' := (uF h5 31 4 ((sF h5 31 4) - (1 : Int32)))) rfl).trans ?_
      refine (es_cV (b := true) (k' := 44) (pc' := 217) (as := [.ref 27, .int (93 : Int32)]) (S' := []) (L' := [(3, .int (sF h2 27 7)), (2, .int s0), (0, .ref 31), (1, .int x0_1)]) (h' := (uF h5 31 4 ((sF h5 31 4) - (1 : Int32)))) rfl rfl rfl rfl rfl).trans (kV_cg fun h6 => ?_)
      refine (es_st 2 (pc' := 219) (L' := [(3, .int (sF h2 27 7)), (2, .int s0), (0, .ref 31), (1, .int x0_1)]) (S' := [.int (3 : Int32), .ref 31]) (h' := h6) rfl).trans ?_
      refine (es_cV (b := true) (k' := 66) (pc' := 222) (as := [.ref 31, .int (3 : Int32)]) (S' := []) (L' := [(3, .int (sF h2 27 7)), (2, .int s0), (0, .ref 31), (1, .int x0_1)]) (h' := h6) rfl rfl rfl rfl rfl).trans (kV_cg fun h7 => ?_)
      refine (es_st 2 (pc' := 226) (L' := [(3, .int (sF h2 27 7)), (2, .int s0), (0, .ref 31), (1, .int x0_1)]) (S' := [.int (sF h7 31 2)]) (h' := h7) rfl).trans ?_
      refine (zs_ne (t := 230) rfl rfl rfl).trans (if_cg ?_ ?_)
      · exact es_fin rfl rfl rfl
      · refine (es_st 4 (pc' := 236) (L' := [(3, .int (sF h2 27 7)), (2, .int s0), (0, .ref 31), (1, .int x0_1)]) (S' := [.ref 36, .int s0, .ref 31]) (h' := h7) rfl).trans ?_
        refine (es_ob (o := rTake h7 36) (pc' := 239) (L' := [(3, .int (sF h2 27 7)), (2, .int s0), (0, .ref 31), (1, .int x0_1)]) (S' := fun z => [.int z.1, .int s0, .ref 31]) (h' := fun z => z.2) rfl rfl rfl).trans (ob_cg fun q8 => ?_)
        refine (es_st 1 (pc' := 242) (L' := [(3, .int (sF h2 27 7)), (2, .int s0), (0, .ref 31), (1, .int x0_1)]) (S' := [.int (mxI s0 q8.1), .ref 31]) (h' := q8.2) rfl).trans ?_
        refine (es_cV (b := true) (k' := 70) (pc' := 245) (as := [.ref 31, .int (mxI s0 q8.1)]) (S' := []) (L' := [(3, .int (sF h2 27 7)), (2, .int s0), (0, .ref 31), (1, .int x0_1)]) (h' := q8.2) rfl rfl rfl rfl rfl).trans (kV_cg fun h9 => ?_)
        refine (es_st 3 (pc' := 250) (L' := [(3, .int (sF h2 27 7)), (2, .int s0), (0, .ref 31), (1, .int x0_1)]) (S' := [.int (1 : Int32), .ref 36]) (h' := h9) rfl).trans ?_
        refine (es_ob (o := rAdd h9 36 (1 : Int32)) (pc' := 253) (L' := [(3, .int (sF h2 27 7)), (2, .int s0), (0, .ref 31), (1, .int x0_1)]) (S' := fun z => [.int z.1]) (h' := fun z => z.2) rfl rfl rfl).trans (ob_cg fun q10 => ?_)
        refine (es_st 1 (pc' := 254) (L' := [(3, .int (sF h2 27 7)), (2, .int s0), (0, .ref 31), (1, .int x0_1)]) (S' := []) (h' := q10.2) rfl).trans ?_
        exact es_fin rfl rfl rfl
  · refine (es_st 2 (pc' := 53) (L' := [(2, .int s0), (0, .ref 31), (1, .int x0_1)]) (S' := [.int s0, .ref 31]) (h' := h2) rfl).trans ?_
    refine (es_cV (b := true) (k' := 67) (pc' := 56) (as := [.ref 31, .int s0]) (S' := []) (L' := [(2, .int s0), (0, .ref 31), (1, .int x0_1)]) (h' := h2) rfl rfl rfl rfl rfl).trans (kV_cg fun h17 => ?_)
    exact es_fin rfl rfl rfl
theorem sX3_name_116 (d : Nat) (hd : 4 ≤ d) (h : SG) (x0_2 : Int32) (x0_3 : Int32) (x0_4 : Int32) (s0 : Int32) : evS true d 68 116 [(0, .ref 31), (2, .int x0_2), (3, .int x0_3), (4, .int x0_4)] [.int s0] h = kV (mS true (d - 1) 44 [.ref 27, .int (93 : Int32)] (uF h 31 4 ((sF h 31 4) - (1 : Int32)))) (fun h1 => if (sF h1 31 2) = 0 then evS true d 68 163 [(0, .ref 31), (3, .int x0_3), (4, .int x0_4), (5, .int s0)] [.int (1 : Int32), .ref 31] h1 else if x0_4 < s0 then evS true d 68 163 [(0, .ref 31), (3, .int x0_3), (4, .int x0_4), (5, .int s0)] [.int (0 : Int32), .ref 31] h1 else if x0_2 ≤ x0_4 then evS true d 68 163 [(0, .ref 31), (3, .int x0_3), (4, .int x0_4), (5, .int s0)] [.int (0 : Int32), .ref 31] h1 else evS true d 68 163 [(0, .ref 31), (3, .int x0_3), (4, .int x0_4), (5, .int s0)] [.int (1 : Int32), .ref 31] h1) := by
  obtain ⟨d, rfl⟩ : ∃ e, d = e + 4 := ⟨d - 4, by omega⟩
  refine (es_st 10 (pc' := 134) (L' := [(5, .int s0), (0, .ref 31), (2, .int x0_2), (3, .int x0_3), (4, .int x0_4)]) (S' := [.int (93 : Int32), .ref 27]) (h' := (uF h 31 4 ((sF h 31 4) - (1 : Int32)))) rfl).trans ?_
  refine (es_cV (b := true) (k' := 44) (pc' := 137) (as := [.ref 27, .int (93 : Int32)]) (S' := []) (L' := [(5, .int s0), (0, .ref 31), (2, .int x0_2), (3, .int x0_3), (4, .int x0_4)]) (h' := (uF h 31 4 ((sF h 31 4) - (1 : Int32)))) rfl rfl rfl rfl rfl).trans (kV_cg fun h1 => ?_)
  refine (es_st 3 (pc' := 142) (L' := [(5, .int s0), (0, .ref 31), (2, .int x0_2), (3, .int x0_3), (4, .int x0_4)]) (S' := [.int (sF h1 31 2), .ref 31]) (h' := h1) rfl).trans ?_
  refine (zs_eq (t := 158) rfl rfl rfl).trans (if_cg ?_ ?_)
  · refine (es_st 2 (pc' := 163) (L' := [(5, .int s0), (0, .ref 31), (2, .int x0_2), (3, .int x0_3), (4, .int x0_4)]) (S' := [.int (1 : Int32), .ref 31]) (h' := h1) rfl).trans ?_
    exact es_cut rfl rfl rfl
  · refine (es_st 2 (pc' := 149) (L' := [(5, .int s0), (0, .ref 31), (2, .int x0_2), (3, .int x0_3), (4, .int x0_4)]) (S' := [.int x0_4, .int s0, .ref 31]) (h' := h1) rfl).trans ?_
    refine (is_gt (t := 162) rfl rfl rfl).trans (if_cg ?_ ?_)
    · refine (es_st 1 (pc' := 163) (L' := [(5, .int s0), (0, .ref 31), (2, .int x0_2), (3, .int x0_3), (4, .int x0_4)]) (S' := [.int (0 : Int32), .ref 31]) (h' := h1) rfl).trans ?_
      exact es_cut rfl rfl rfl
    · refine (es_st 2 (pc' := 155) (L' := [(5, .int s0), (0, .ref 31), (2, .int x0_2), (3, .int x0_3), (4, .int x0_4)]) (S' := [.int x0_2, .int x0_4, .ref 31]) (h' := h1) rfl).trans ?_
      refine (is_ge (t := 162) rfl rfl rfl).trans (if_cg ?_ ?_)
      · refine (es_st 1 (pc' := 163) (L' := [(5, .int s0), (0, .ref 31), (2, .int x0_2), (3, .int x0_3), (4, .int x0_4)]) (S' := [.int (0 : Int32), .ref 31]) (h' := h1) rfl).trans ?_
        exact es_cut rfl rfl rfl
      · refine (es_st 2 (pc' := 163) (L' := [(5, .int s0), (0, .ref 31), (2, .int x0_2), (3, .int x0_3), (4, .int x0_4)]) (S' := [.int (1 : Int32), .ref 31]) (h' := h1) rfl).trans ?_
        exact es_cut rfl rfl rfl
theorem sX3_name_163 (d : Nat) (hd : 4 ≤ d) (h : SG) (x0_3 : Int32) (x0_4 : Int32) (x0_5 : Int32) (s0 : Int32) : evS true d 68 163 [(0, .ref 31), (3, .int x0_3), (4, .int x0_4), (5, .int x0_5)] [.int s0, .ref 31] h = kV (mS true (d - 1) 49 [.ref 31, .int s0, .int (30 : Int32), .int x0_3] h) (fun h1 => kV (mS true (d - 1) 66 [.ref 31, .int (2 : Int32)] h1) (fun h2 => kV (mS true (d - 1) 65 [.ref 31, .int x0_4, .int x0_5] h2) (fun h3 => kV (mS true (d - 1) 67 [.ref 31, .int ((x0_4 - x0_5) + (1 : Int32))] h3) (fun h4 => some (.inl none, h4))))) := by
  obtain ⟨d, rfl⟩ : ∃ e, d = e + 4 := ⟨d - 4, by omega⟩
  refine (es_st 2 (pc' := 166) (L' := [(0, .ref 31), (3, .int x0_3), (4, .int x0_4), (5, .int x0_5)]) (S' := [.int x0_3, .int (30 : Int32), .int s0, .ref 31]) (h' := h) rfl).trans ?_
  refine (es_cV (b := true) (k' := 49) (pc' := 169) (as := [.ref 31, .int s0, .int (30 : Int32), .int x0_3]) (S' := []) (L' := [(0, .ref 31), (3, .int x0_3), (4, .int x0_4), (5, .int x0_5)]) (h' := h) rfl rfl rfl rfl rfl).trans (kV_cg fun h1 => ?_)
  refine (es_st 2 (pc' := 171) (L' := [(0, .ref 31), (3, .int x0_3), (4, .int x0_4), (5, .int x0_5)]) (S' := [.int (2 : Int32), .ref 31]) (h' := h1) rfl).trans ?_
  refine (es_cV (b := true) (k' := 66) (pc' := 174) (as := [.ref 31, .int (2 : Int32)]) (S' := []) (L' := [(0, .ref 31), (3, .int x0_3), (4, .int x0_4), (5, .int x0_5)]) (h' := h1) rfl rfl rfl rfl rfl).trans (kV_cg fun h2 => ?_)
  refine (es_st 3 (pc' := 179) (L' := [(0, .ref 31), (3, .int x0_3), (4, .int x0_4), (5, .int x0_5)]) (S' := [.int x0_5, .int x0_4, .ref 31]) (h' := h2) rfl).trans ?_
  refine (es_cV (b := true) (k' := 65) (pc' := 182) (as := [.ref 31, .int x0_4, .int x0_5]) (S' := []) (L' := [(0, .ref 31), (3, .int x0_3), (4, .int x0_4), (5, .int x0_5)]) (h' := h2) rfl rfl rfl rfl rfl).trans (kV_cg fun h3 => ?_)
  refine (es_st 6 (pc' := 190) (L' := [(0, .ref 31), (3, .int x0_3), (4, .int x0_4), (5, .int x0_5)]) (S' := [.int ((x0_4 - x0_5) + (1 : Int32)), .ref 31]) (h' := h3) rfl).trans ?_
  refine (es_cV (b := true) (k' := 67) (pc' := 193) (as := [.ref 31, .int ((x0_4 - x0_5) + (1 : Int32))]) (S' := []) (L' := [(0, .ref 31), (3, .int x0_3), (4, .int x0_4), (5, .int x0_5)]) (h' := h3) rfl rfl rfl rfl rfl).trans (kV_cg fun h4 => ?_)
  exact es_fin rfl rfl rfl
theorem sX3_opens_0 (d : Nat) (hd : 1 ≤ d) (h : SG) : mS true d 69 [.ref 31] h = if (60 : Int32) ≤ (sF h 31 4) then evS true d 69 15 [(0, .ref 31)] [.int (0 : Int32), .ref 31] h else evS true d 69 15 [(0, .ref 31)] [.int (1 : Int32), .ref 31] h := by
  obtain ⟨d, rfl⟩ : ∃ e, d = e + 1 := ⟨d - 1, by omega⟩
  show evS true (d + 1) 69 0 [(0, .ref 31)] [] h = _
  refine (es_st 4 (pc' := 7) (L' := [(0, .ref 31)]) (S' := [.int (60 : Int32), .int (sF h 31 4), .ref 31]) (h' := h) rfl).trans ?_
  refine (is_ge (t := 14) rfl rfl rfl).trans (if_cg ?_ ?_)
  · refine (es_st 1 (pc' := 15) (L' := [(0, .ref 31)]) (S' := [.int (0 : Int32), .ref 31]) (h' := h) rfl).trans ?_
    exact es_cut rfl rfl rfl
  · refine (es_st 2 (pc' := 15) (L' := [(0, .ref 31)]) (S' := [.int (1 : Int32), .ref 31]) (h' := h) rfl).trans ?_
    exact es_cut rfl rfl rfl
theorem sX3_opens_15 (d : Nat) (hd : 1 ≤ d) (h : SG) (s0 : Int32) : evS true d 69 15 [(0, .ref 31)] [.int s0, .ref 31] h = kV (mS true (d - 1) 49 [.ref 31, .int s0, .int (3 : Int32), .int (sF h 27 7)] h) (fun h1 => some (.inl none, (uF h1 31 4 ((sF h1 31 4) + (1 : Int32))))) := by
  obtain ⟨d, rfl⟩ : ∃ e, d = e + 1 := ⟨d - 1, by omega⟩
  refine (es_st 4 (pc' := 23) (L' := [(0, .ref 31)]) (S' := [.int (sF h 27 7), .int (3 : Int32), .int s0, .ref 31]) (h' := h) rfl).trans ?_
  refine (es_cV (b := true) (k' := 49) (pc' := 26) (as := [.ref 31, .int s0, .int (3 : Int32), .int (sF h 27 7)]) (S' := []) (L' := [(0, .ref 31)]) (h' := h) rfl rfl rfl rfl rfl).trans (kV_cg fun h1 => ?_)
  refine (es_st 6 (pc' := 36) (L' := [(0, .ref 31)]) (S' := []) (h' := (uF h1 31 4 ((sF h1 31 4) + (1 : Int32)))) rfl).trans ?_
  exact es_fin rfl rfl rfl
theorem sX3_cost_0 (d : Nat) (hd : 4 ≤ d) (h : SG) (x0_1 : Int32) : mS true d 70 [.ref 31, .int x0_1] h = ob (rAt h 96 (((7 : Int32) * (sF h 31 3)) + (6 : Int32))) (fun x1 => ob (rSet h 96 (((7 : Int32) * (sF h 31 3)) + (6 : Int32)) (mnI (1501 : Int32) (x1 + x0_1))) (fun h2 => some (.inl none, h2))) := by
  obtain ⟨d, rfl⟩ : ∃ e, d = e + 4 := ⟨d - 4, by omega⟩
  show evS true (d + 4) 70 0 [(0, .ref 31), (1, .int x0_1)] [] h = _
  refine (es_st 16 (pc' := 30) (L' := [(2, .int (((7 : Int32) * (sF h 31 3)) + (6 : Int32))), (0, .ref 31), (1, .int x0_1)]) (S' := [.int (((7 : Int32) * (sF h 31 3)) + (6 : Int32)), .ref 96, .int (1501 : Int32), .int (((7 : Int32) * (sF h 31 3)) + (6 : Int32)), .ref 96]) (h' := h) rfl).trans ?_
  refine (es_ob (o := rAt h 96 (((7 : Int32) * (sF h 31 3)) + (6 : Int32))) (pc' := 33) (L' := [(2, .int (((7 : Int32) * (sF h 31 3)) + (6 : Int32))), (0, .ref 31), (1, .int x0_1)]) (S' := fun z => [.int z, .int (1501 : Int32), .int (((7 : Int32) * (sF h 31 3)) + (6 : Int32)), .ref 96]) (h' := fun z => h) rfl rfl rfl).trans (ob_cg fun x1 => ?_)
  refine (es_st 3 (pc' := 38) (L' := [(2, .int (((7 : Int32) * (sF h 31 3)) + (6 : Int32))), (0, .ref 31), (1, .int x0_1)]) (S' := [.int (mnI (1501 : Int32) (x1 + x0_1)), .int (((7 : Int32) * (sF h 31 3)) + (6 : Int32)), .ref 96]) (h' := h) rfl).trans ?_
  refine (es_ob (o := rSet h 96 (((7 : Int32) * (sF h 31 3)) + (6 : Int32)) (mnI (1501 : Int32) (x1 + x0_1))) (pc' := 41) (L' := [(2, .int (((7 : Int32) * (sF h 31 3)) + (6 : Int32))), (0, .ref 31), (1, .int x0_1)]) (S' := fun z => []) (h' := fun z => z) rfl rfl rfl).trans (ob_cg fun h2 => ?_)
  exact es_fin rfl rfl rfl
theorem sX3_bracketed_0 (d : Nat) (hd : 1 ≤ d) (h : SG) : mS true d 71 [.ref 31] h = kV (mS true (d - 1) 69 [.ref 31] h) (fun h1 => kV (mS true (d - 1) 30 [.ref 27] h1) (fun h2 => kV (mS true (d - 1) 61 [.ref 31] h2) (fun h3 => kV (mS true (d - 1) 44 [.ref 27, .int (41 : Int32)] (uF h3 31 4 ((sF h3 31 4) - (1 : Int32)))) (fun h4 => some (.inl none, h4))))) := by
  obtain ⟨d, rfl⟩ : ∃ e, d = e + 1 := ⟨d - 1, by omega⟩
  show evS true (d + 1) 71 0 [(0, .ref 31)] [] h = _
  refine (es_st 1 (pc' := 1) (L' := [(0, .ref 31)]) (S' := [.ref 31]) (h' := h) rfl).trans ?_
  refine (es_cV (b := true) (k' := 69) (pc' := 4) (as := [.ref 31]) (S' := []) (L' := [(0, .ref 31)]) (h' := h) rfl rfl rfl rfl rfl).trans (kV_cg fun h1 => ?_)
  refine (es_st 2 (pc' := 8) (L' := [(0, .ref 31)]) (S' := [.ref 27]) (h' := h1) rfl).trans ?_
  refine (es_cV (b := true) (k' := 30) (pc' := 11) (as := [.ref 27]) (S' := []) (L' := [(0, .ref 31)]) (h' := h1) rfl rfl rfl rfl rfl).trans (kV_cg fun h2 => ?_)
  refine (es_st 1 (pc' := 12) (L' := [(0, .ref 31)]) (S' := [.ref 31]) (h' := h2) rfl).trans ?_
  refine (es_cV (b := true) (k' := 61) (pc' := 15) (as := [.ref 31]) (S' := []) (L' := [(0, .ref 31)]) (h' := h2) rfl rfl rfl rfl rfl).trans (kV_cg fun h3 => ?_)
  refine (es_st 9 (pc' := 31) (L' := [(0, .ref 31)]) (S' := [.int (41 : Int32), .ref 27]) (h' := (uF h3 31 4 ((sF h3 31 4) - (1 : Int32)))) rfl).trans ?_
  refine (es_cV (b := true) (k' := 44) (pc' := 34) (as := [.ref 27, .int (41 : Int32)]) (S' := []) (L' := [(0, .ref 31)]) (h' := (uF h3 31 4 ((sF h3 31 4) - (1 : Int32)))) rfl rfl rfl rfl rfl).trans (kV_cg fun h4 => ?_)
  exact es_fin rfl rfl rfl
theorem sX3_braces_0 (d : Nat) (hd : 4 ≤ d) (h : SG) : mS true d 72 [.ref 31] h = kV (mS true (d - 1) 69 [.ref 31] h) (fun h1 => kV (mS true (d - 1) 30 [.ref 27] h1) (fun h2 => if (sF h2 27 6) = (258 : Int32) then kI (mS true (d - 1) 54 [.ref 31] h2) (fun x5 h4 => if (sF h4 27 6) = (123 : Int32) then evS true d 72 57 [(0, .ref 31), (1, .int (sF h 27 7)), (3, .int x5)] [.int (1 : Int32), .ref 31] h4 else evS true d 72 57 [(0, .ref 31), (1, .int (sF h 27 7)), (3, .int x5)] [.int (0 : Int32), .ref 31] h4) else kV (mS true (d - 1) 61 [.ref 31] h2) (fun h3 => evS true d 72 139 [(0, .ref 31), (1, .int (sF h 27 7)), (2, .int (0 : Int32)), (3, .int (1 : Int32))] [] h3))) := by
  obtain ⟨d, rfl⟩ : ∃ e, d = e + 4 := ⟨d - 4, by omega⟩
  show evS true (d + 4) 72 0 [(0, .ref 31)] [] h = _
  refine (es_st 5 (pc' := 9) (L' := [(1, .int (sF h 27 7)), (0, .ref 31)]) (S' := [.ref 31]) (h' := h) rfl).trans ?_
  refine (es_cV (b := true) (k' := 69) (pc' := 12) (as := [.ref 31]) (S' := []) (L' := [(1, .int (sF h 27 7)), (0, .ref 31)]) (h' := h) rfl rfl rfl rfl rfl).trans (kV_cg fun h1 => ?_)
  refine (es_st 2 (pc' := 16) (L' := [(1, .int (sF h 27 7)), (0, .ref 31)]) (S' := [.ref 27]) (h' := h1) rfl).trans ?_
  refine (es_cV (b := true) (k' := 30) (pc' := 19) (as := [.ref 27]) (S' := []) (L' := [(1, .int (sF h 27 7)), (0, .ref 31)]) (h' := h1) rfl rfl rfl rfl rfl).trans (kV_cg fun h2 => ?_)
  refine (es_st 6 (pc' := 31) (L' := [(2, .int (0 : Int32)), (1, .int (sF h 27 7)), (0, .ref 31)]) (S' := [.int (258 : Int32), .int (sF h2 27 6)]) (h' := h2) rfl).trans ?_
  refine (is_ne (t := 133) rfl rfl rfl).trans (if_cg ?_ ?_)
  · refine (es_st 1 (pc' := 35) (L' := [(2, .int (0 : Int32)), (1, .int (sF h 27 7)), (0, .ref 31)]) (S' := [.ref 31]) (h' := h2) rfl).trans ?_
    refine (es_cI (b := true) (k' := 54) (pc' := 38) (as := [.ref 31]) (S' := []) (L' := [(2, .int (0 : Int32)), (1, .int (sF h 27 7)), (0, .ref 31)]) (h' := h2) rfl rfl rfl rfl rfl).trans (kI_cg fun x5 h4 => ?_)
    refine (es_st 6 (pc' := 49) (L' := [(3, .int x5), (2, .int (0 : Int32)), (1, .int (sF h 27 7)), (0, .ref 31)]) (S' := [.int (123 : Int32), .int (sF h4 27 6), .ref 31]) (h' := h4) rfl).trans ?_
    refine (is_ne (t := 56) rfl rfl rfl).trans (if_cg ?_ ?_)
    · refine (es_st 2 (pc' := 57) (L' := [(3, .int x5), (2, .int (0 : Int32)), (1, .int (sF h 27 7)), (0, .ref 31)]) (S' := [.int (1 : Int32), .ref 31]) (h' := h4) rfl).trans ?_
      exact es_cut rfl rfl rfl
    · refine (es_st 1 (pc' := 57) (L' := [(3, .int x5), (2, .int (0 : Int32)), (1, .int (sF h 27 7)), (0, .ref 31)]) (S' := [.int (0 : Int32), .ref 31]) (h' := h4) rfl).trans ?_
      exact es_cut rfl rfl rfl
  · refine (es_st 3 (pc' := 136) (L' := [(3, .int (1 : Int32)), (2, .int (0 : Int32)), (1, .int (sF h 27 7)), (0, .ref 31)]) (S' := [.ref 31]) (h' := h2) rfl).trans ?_
    refine (es_cV (b := true) (k' := 61) (pc' := 139) (as := [.ref 31]) (S' := []) (L' := [(3, .int (1 : Int32)), (2, .int (0 : Int32)), (1, .int (sF h 27 7)), (0, .ref 31)]) (h' := h2) rfl rfl rfl rfl rfl).trans (kV_cg fun h3 => ?_)
    exact es_cut rfl rfl rfl
theorem sX3_braces_57 (d : Nat) (hd : 4 ≤ d) (h : SG) (x0_1 : Int32) (x0_3 : Int32) (s0 : Int32) : evS true d 72 57 [(0, .ref 31), (1, .int x0_1), (3, .int x0_3)] [.int s0, .ref 31] h = kV (mS true (d - 1) 49 [.ref 31, .int s0, .int (2 : Int32), .int (sF h 27 7)] h) (fun h1 => kV (mS true (d - 1) 69 [.ref 31] h1) (fun h2 => kV (mS true (d - 1) 30 [.ref 27] h2) (fun h3 => kV (mS true (d - 1) 61 [.ref 31] h3) (fun h4 => kV (mS true (d - 1) 44 [.ref 27, .int (125 : Int32)] (uF h4 31 4 ((sF h4 31 4) - (1 : Int32)))) (fun h5 => if (sF h5 31 2) = 0 then kV (mS true (d - 1) 65 [.ref 31, .int (8 : Int32), .int x0_3] h5) (fun h6 => evS true d 72 200 [(0, .ref 31), (1, .int x0_1), (2, .int (1 : Int32))] [] h6) else ob (rTake h5 36) (fun q7 => kV (mS true (d - 1) 65 [.ref 31, .int (8 : Int32), .int x0_3] q7.2) (fun h8 => evS true d 72 200 [(0, .ref 31), (1, .int x0_1), (2, .int (x0_3 * q7.1))] [] h8))))))) := by
  obtain ⟨d, rfl⟩ : ∃ e, d = e + 4 := ⟨d - 4, by omega⟩
  refine (es_st 4 (pc' := 65) (L' := [(0, .ref 31), (1, .int x0_1), (3, .int x0_3)]) (S' := [.int (sF h 27 7), .int (2 : Int32), .int s0, .ref 31]) (h' := h) rfl).trans ?_
  refine (es_cV (b := true) (k' := 49) (pc' := 68) (as := [.ref 31, .int s0, .int (2 : Int32), .int (sF h 27 7)]) (S' := []) (L' := [(0, .ref 31), (1, .int x0_1), (3, .int x0_3)]) (h' := h) rfl rfl rfl rfl rfl).trans (kV_cg fun h1 => ?_)
  refine (es_st 1 (pc' := 69) (L' := [(0, .ref 31), (1, .int x0_1), (3, .int x0_3)]) (S' := [.ref 31]) (h' := h1) rfl).trans ?_
  refine (es_cV (b := true) (k' := 69) (pc' := 72) (as := [.ref 31]) (S' := []) (L' := [(0, .ref 31), (1, .int x0_1), (3, .int x0_3)]) (h' := h1) rfl rfl rfl rfl rfl).trans (kV_cg fun h2 => ?_)
  refine (es_st 2 (pc' := 76) (L' := [(0, .ref 31), (1, .int x0_1), (3, .int x0_3)]) (S' := [.ref 27]) (h' := h2) rfl).trans ?_
  refine (es_cV (b := true) (k' := 30) (pc' := 79) (as := [.ref 27]) (S' := []) (L' := [(0, .ref 31), (1, .int x0_1), (3, .int x0_3)]) (h' := h2) rfl rfl rfl rfl rfl).trans (kV_cg fun h3 => ?_)
  refine (es_st 1 (pc' := 80) (L' := [(0, .ref 31), (1, .int x0_1), (3, .int x0_3)]) (S' := [.ref 31]) (h' := h3) rfl).trans ?_
  refine (es_cV (b := true) (k' := 61) (pc' := 83) (as := [.ref 31]) (S' := []) (L' := [(0, .ref 31), (1, .int x0_1), (3, .int x0_3)]) (h' := h3) rfl rfl rfl rfl rfl).trans (kV_cg fun h4 => ?_)
  refine (es_st 9 (pc' := 99) (L' := [(0, .ref 31), (1, .int x0_1), (3, .int x0_3)]) (S' := [.int (125 : Int32), .ref 27]) (h' := (uF h4 31 4 ((sF h4 31 4) - (1 : Int32)))) rfl).trans ?_
  refine (es_cV (b := true) (k' := 44) (pc' := 102) (as := [.ref 27, .int (125 : Int32)]) (S' := []) (L' := [(0, .ref 31), (1, .int x0_1), (3, .int x0_3)]) (h' := (uF h4 31 4 ((sF h4 31 4) - (1 : Int32)))) rfl rfl rfl rfl rfl).trans (kV_cg fun h5 => ?_)
  refine (es_st 2 (pc' := 106) (L' := [(0, .ref 31), (1, .int x0_1), (3, .int x0_3)]) (S' := [.int (sF h5 31 2)]) (h' := h5) rfl).trans ?_
  refine (zs_eq (t := 121) rfl rfl rfl).trans (if_cg ?_ ?_)
  · refine (es_st 5 (pc' := 127) (L' := [(2, .int (1 : Int32)), (0, .ref 31), (1, .int x0_1), (3, .int x0_3)]) (S' := [.int x0_3, .int (8 : Int32), .ref 31]) (h' := h5) rfl).trans ?_
    refine (es_cV (b := true) (k' := 65) (pc' := 130) (as := [.ref 31, .int (8 : Int32), .int x0_3]) (S' := []) (L' := [(2, .int (1 : Int32)), (0, .ref 31), (1, .int x0_1), (3, .int x0_3)]) (h' := h5) rfl rfl rfl rfl rfl).trans (kV_cg fun h6 => ?_)
    refine (es_st 1 (pc' := 200) (L' := [(2, .int (1 : Int32)), (0, .ref 31), (1, .int x0_1), (3, .int x0_3)]) (S' := []) (h' := h6) rfl).trans ?_
    exact es_cut rfl rfl rfl
  · refine (es_st 3 (pc' := 114) (L' := [(0, .ref 31), (1, .int x0_1), (3, .int x0_3)]) (S' := [.ref 36, .int x0_3]) (h' := h5) rfl).trans ?_
    refine (es_ob (o := rTake h5 36) (pc' := 117) (L' := [(0, .ref 31), (1, .int x0_1), (3, .int x0_3)]) (S' := fun z => [.int z.1, .int x0_3]) (h' := fun z => z.2) rfl rfl rfl).trans (ob_cg fun q7 => ?_)
    refine (es_st 6 (pc' := 127) (L' := [(2, .int (x0_3 * q7.1)), (0, .ref 31), (1, .int x0_1), (3, .int x0_3)]) (S' := [.int x0_3, .int (8 : Int32), .ref 31]) (h' := q7.2) rfl).trans ?_
    refine (es_cV (b := true) (k' := 65) (pc' := 130) (as := [.ref 31, .int (8 : Int32), .int x0_3]) (S' := []) (L' := [(2, .int (x0_3 * q7.1)), (0, .ref 31), (1, .int x0_1), (3, .int x0_3)]) (h' := q7.2) rfl rfl rfl rfl rfl).trans (kV_cg fun h8 => ?_)
    refine (es_st 1 (pc' := 200) (L' := [(2, .int (x0_3 * q7.1)), (0, .ref 31), (1, .int x0_1), (3, .int x0_3)]) (S' := []) (h' := h8) rfl).trans ?_
    exact es_cut rfl rfl rfl
theorem sX3_braces_139 (d : Nat) (hd : 4 ≤ d) (h : SG) (x0_1 : Int32) (x0_2 : Int32) (x0_3 : Int32) : evS true d 72 139 [(0, .ref 31), (1, .int x0_1), (2, .int x0_2), (3, .int x0_3)] [] h = kI (mS true (d - 1) 45 [.ref 27, .int (44 : Int32)] h) (fun x2 h1 => if x2 = 0 then evS true d 72 164 [(0, .ref 31), (1, .int x0_1), (2, .int x0_2), (3, .int x0_3), (4, .int (0 : Int32))] [] h1 else kV (mS true (d - 1) 61 [.ref 31] h1) (fun h3 => evS true d 72 139 [(0, .ref 31), (1, .int x0_1), (2, .int x0_2), (3, .int (x0_3 + (1 : Int32)))] [] h3)) := by
  obtain ⟨d, rfl⟩ : ∃ e, d = e + 4 := ⟨d - 4, by omega⟩
  refine (es_st 3 (pc' := 145) (L' := [(0, .ref 31), (1, .int x0_1), (2, .int x0_2), (3, .int x0_3)]) (S' := [.int (44 : Int32), .ref 27]) (h' := h) rfl).trans ?_
  refine (es_cI (b := true) (k' := 45) (pc' := 148) (as := [.ref 27, .int (44 : Int32)]) (S' := []) (L' := [(0, .ref 31), (1, .int x0_1), (2, .int x0_2), (3, .int x0_3)]) (h' := h) rfl rfl rfl rfl rfl).trans (kI_cg fun x2 h1 => ?_)
  refine (zs_eq (t := 161) rfl rfl rfl).trans (if_cg ?_ ?_)
  · refine (es_st 2 (pc' := 164) (L' := [(4, .int (0 : Int32)), (0, .ref 31), (1, .int x0_1), (2, .int x0_2), (3, .int x0_3)]) (S' := []) (h' := h1) rfl).trans ?_
    exact es_cut rfl rfl rfl
  · refine (es_st 1 (pc' := 152) (L' := [(0, .ref 31), (1, .int x0_1), (2, .int x0_2), (3, .int x0_3)]) (S' := [.ref 31]) (h' := h1) rfl).trans ?_
    refine (es_cV (b := true) (k' := 61) (pc' := 155) (as := [.ref 31]) (S' := []) (L' := [(0, .ref 31), (1, .int x0_1), (2, .int x0_2), (3, .int x0_3)]) (h' := h1) rfl rfl rfl rfl rfl).trans (kV_cg fun h3 => ?_)
    refine (es_st 2 (pc' := 139) (L' := [(3, .int (x0_3 + (1 : Int32))), (0, .ref 31), (1, .int x0_1), (2, .int x0_2)]) (S' := []) (h' := h3) rfl).trans ?_
    exact es_cut rfl rfl rfl
theorem sX3_braces_164 (d : Nat) (hd : 4 ≤ d) (h : SG) (x0_1 : Int32) (x0_2 : Int32) (x0_3 : Int32) (x0_4 : Int32) : evS true d 72 164 [(0, .ref 31), (1, .int x0_1), (2, .int x0_2), (3, .int x0_3), (4, .int x0_4)] [] h = if x0_3 ≤ x0_4 then kV (mS true (d - 1) 65 [.ref 31, .int (7 : Int32), .int x0_3] h) (fun h1 => evS true d 72 200 [(0, .ref 31), (1, .int x0_1), (2, .int x0_2)] [] h1) else if (sF h 31 2) = 0 then kV (mS true (d - 1) 65 [.ref 31, .int (7 : Int32), .int x0_3] h) (fun h2 => evS true d 72 200 [(0, .ref 31), (1, .int x0_1), (2, .int x0_2)] [] h2) else ob (rTake h 36) (fun q3 => evS true d 72 164 [(0, .ref 31), (1, .int x0_1), (2, .int (x0_2 + q3.1)), (3, .int x0_3), (4, .int (x0_4 + (1 : Int32)))] [] q3.2) := by
  obtain ⟨d, rfl⟩ : ∃ e, d = e + 4 := ⟨d - 4, by omega⟩
  refine (es_st 2 (pc' := 167) (L' := [(0, .ref 31), (1, .int x0_1), (2, .int x0_2), (3, .int x0_3), (4, .int x0_4)]) (S' := [.int x0_3, .int x0_4]) (h' := h) rfl).trans ?_
  refine (is_ge (t := 193) rfl rfl rfl).trans (if_cg ?_ ?_)
  · refine (es_st 3 (pc' := 197) (L' := [(0, .ref 31), (1, .int x0_1), (2, .int x0_2), (3, .int x0_3), (4, .int x0_4)]) (S' := [.int x0_3, .int (7 : Int32), .ref 31]) (h' := h) rfl).trans ?_
    refine (es_cV (b := true) (k' := 65) (pc' := 200) (as := [.ref 31, .int (7 : Int32), .int x0_3]) (S' := []) (L' := [(0, .ref 31), (1, .int x0_1), (2, .int x0_2), (3, .int x0_3), (4, .int x0_4)]) (h' := h) rfl rfl rfl rfl rfl).trans (kV_cg fun h1 => ?_)
    exact es_cut rfl rfl rfl
  · refine (es_st 2 (pc' := 174) (L' := [(0, .ref 31), (1, .int x0_1), (2, .int x0_2), (3, .int x0_3), (4, .int x0_4)]) (S' := [.int (sF h 31 2)]) (h' := h) rfl).trans ?_
    refine (zs_eq (t := 193) rfl rfl rfl).trans (if_cg ?_ ?_)
    · refine (es_st 3 (pc' := 197) (L' := [(0, .ref 31), (1, .int x0_1), (2, .int x0_2), (3, .int x0_3), (4, .int x0_4)]) (S' := [.int x0_3, .int (7 : Int32), .ref 31]) (h' := h) rfl).trans ?_
      refine (es_cV (b := true) (k' := 65) (pc' := 200) (as := [.ref 31, .int (7 : Int32), .int x0_3]) (S' := []) (L' := [(0, .ref 31), (1, .int x0_1), (2, .int x0_2), (3, .int x0_3), (4, .int x0_4)]) (h' := h) rfl rfl rfl rfl rfl).trans (kV_cg fun h2 => ?_)
      exact es_cut rfl rfl rfl
    · refine (es_st 3 (pc' := 182) (L' := [(0, .ref 31), (1, .int x0_1), (2, .int x0_2), (3, .int x0_3), (4, .int x0_4)]) (S' := [.ref 36, .int x0_2]) (h' := h) rfl).trans ?_
      refine (es_ob (o := rTake h 36) (pc' := 185) (L' := [(0, .ref 31), (1, .int x0_1), (2, .int x0_2), (3, .int x0_3), (4, .int x0_4)]) (S' := fun z => [.int z.1, .int x0_2]) (h' := fun z => z.2) rfl rfl rfl).trans (ob_cg fun q3 => ?_)
      refine (es_st 4 (pc' := 164) (L' := [(4, .int (x0_4 + (1 : Int32))), (2, .int (x0_2 + q3.1)), (0, .ref 31), (1, .int x0_1), (3, .int x0_3)]) (S' := []) (h' := q3.2) rfl).trans ?_
      exact es_cut rfl rfl rfl
theorem sX3_braces_200 (d : Nat) (hd : 4 ≤ d) (h : SG) (x0_1 : Int32) (x0_2 : Int32) : evS true d 72 200 [(0, .ref 31), (1, .int x0_1), (2, .int x0_2)] [] h = kV (mS true (d - 1) 44 [.ref 27, .int (125 : Int32)] (uF h 31 4 ((sF h 31 4) - (1 : Int32)))) (fun h1 => if (sF h1 31 2) = 0 then kV (mS true (d - 1) 49 [.ref 31, .int (1 : Int32), .int (30 : Int32), .int x0_1] h1) (fun h2 => kV (mS true (d - 1) 67 [.ref 31, .int x0_2] h2) (fun h3 => some (.inl none, h3))) else if x0_2 ≤ 0 then kV (mS true (d - 1) 49 [.ref 31, .int (0 : Int32), .int (30 : Int32), .int x0_1] h1) (fun h4 => kV (mS true (d - 1) 67 [.ref 31, .int x0_2] h4) (fun h5 => some (.inl none, h5))) else if (65 : Int32) ≤ x0_2 then kV (mS true (d - 1) 49 [.ref 31, .int (0 : Int32), .int (30 : Int32), .int x0_1] h1) (fun h6 => kV (mS true (d - 1) 67 [.ref 31, .int x0_2] h6) (fun h7 => some (.inl none, h7))) else kV (mS true (d - 1) 49 [.ref 31, .int (1 : Int32), .int (30 : Int32), .int x0_1] h1) (fun h8 => kV (mS true (d - 1) 67 [.ref 31, .int x0_2] h8) (fun h9 => some (.inl none, h9)))) := by
  obtain ⟨d, rfl⟩ : ∃ e, d = e + 4 := ⟨d - 4, by omega⟩
  refine (es_st 9 (pc' := 216) (L' := [(0, .ref 31), (1, .int x0_1), (2, .int x0_2)]) (S' := [.int (125 : Int32), .ref 27]) (h' := (uF h 31 4 ((sF h 31 4) - (1 : Int32)))) rfl).trans ?_
  refine (es_cV (b := true) (k' := 44) (pc' := 219) (as := [.ref 27, .int (125 : Int32)]) (S' := []) (L' := [(0, .ref 31), (1, .int x0_1), (2, .int x0_2)]) (h' := (uF h 31 4 ((sF h 31 4) - (1 : Int32)))) rfl rfl rfl rfl rfl).trans (kV_cg fun h1 => ?_)
  refine (es_st 3 (pc' := 224) (L' := [(0, .ref 31), (1, .int x0_1), (2, .int x0_2)]) (S' := [.int (sF h1 31 2), .ref 31]) (h' := h1) rfl).trans ?_
  refine (zs_eq (t := 237) rfl rfl rfl).trans (if_cg ?_ ?_)
  · refine (es_st 4 (pc' := 245) (L' := [(0, .ref 31), (1, .int x0_1), (2, .int x0_2)]) (S' := [.int x0_1, .int (30 : Int32), .int (1 : Int32), .ref 31]) (h' := h1) rfl).trans ?_
    refine (es_cV (b := true) (k' := 49) (pc' := 248) (as := [.ref 31, .int (1 : Int32), .int (30 : Int32), .int x0_1]) (S' := []) (L' := [(0, .ref 31), (1, .int x0_1), (2, .int x0_2)]) (h' := h1) rfl rfl rfl rfl rfl).trans (kV_cg fun h2 => ?_)
    refine (es_st 2 (pc' := 250) (L' := [(0, .ref 31), (1, .int x0_1), (2, .int x0_2)]) (S' := [.int x0_2, .ref 31]) (h' := h2) rfl).trans ?_
    refine (es_cV (b := true) (k' := 67) (pc' := 253) (as := [.ref 31, .int x0_2]) (S' := []) (L' := [(0, .ref 31), (1, .int x0_1), (2, .int x0_2)]) (h' := h2) rfl rfl rfl rfl rfl).trans (kV_cg fun h3 => ?_)
    exact es_fin rfl rfl rfl
  · refine (es_st 1 (pc' := 228) (L' := [(0, .ref 31), (1, .int x0_1), (2, .int x0_2)]) (S' := [.int x0_2, .ref 31]) (h' := h1) rfl).trans ?_
    refine (zs_le (t := 241) rfl rfl rfl).trans (if_cg ?_ ?_)
    · refine (es_st 3 (pc' := 245) (L' := [(0, .ref 31), (1, .int x0_1), (2, .int x0_2)]) (S' := [.int x0_1, .int (30 : Int32), .int (0 : Int32), .ref 31]) (h' := h1) rfl).trans ?_
      refine (es_cV (b := true) (k' := 49) (pc' := 248) (as := [.ref 31, .int (0 : Int32), .int (30 : Int32), .int x0_1]) (S' := []) (L' := [(0, .ref 31), (1, .int x0_1), (2, .int x0_2)]) (h' := h1) rfl rfl rfl rfl rfl).trans (kV_cg fun h4 => ?_)
      refine (es_st 2 (pc' := 250) (L' := [(0, .ref 31), (1, .int x0_1), (2, .int x0_2)]) (S' := [.int x0_2, .ref 31]) (h' := h4) rfl).trans ?_
      refine (es_cV (b := true) (k' := 67) (pc' := 253) (as := [.ref 31, .int x0_2]) (S' := []) (L' := [(0, .ref 31), (1, .int x0_1), (2, .int x0_2)]) (h' := h4) rfl rfl rfl rfl rfl).trans (kV_cg fun h5 => ?_)
      exact es_fin rfl rfl rfl
    · refine (es_st 2 (pc' := 234) (L' := [(0, .ref 31), (1, .int x0_1), (2, .int x0_2)]) (S' := [.int (65 : Int32), .int x0_2, .ref 31]) (h' := h1) rfl).trans ?_
      refine (is_ge (t := 241) rfl rfl rfl).trans (if_cg ?_ ?_)
      · refine (es_st 3 (pc' := 245) (L' := [(0, .ref 31), (1, .int x0_1), (2, .int x0_2)]) (S' := [.int x0_1, .int (30 : Int32), .int (0 : Int32), .ref 31]) (h' := h1) rfl).trans ?_
        refine (es_cV (b := true) (k' := 49) (pc' := 248) (as := [.ref 31, .int (0 : Int32), .int (30 : Int32), .int x0_1]) (S' := []) (L' := [(0, .ref 31), (1, .int x0_1), (2, .int x0_2)]) (h' := h1) rfl rfl rfl rfl rfl).trans (kV_cg fun h6 => ?_)
        refine (es_st 2 (pc' := 250) (L' := [(0, .ref 31), (1, .int x0_1), (2, .int x0_2)]) (S' := [.int x0_2, .ref 31]) (h' := h6) rfl).trans ?_
        refine (es_cV (b := true) (k' := 67) (pc' := 253) (as := [.ref 31, .int x0_2]) (S' := []) (L' := [(0, .ref 31), (1, .int x0_1), (2, .int x0_2)]) (h' := h6) rfl rfl rfl rfl rfl).trans (kV_cg fun h7 => ?_)
        exact es_fin rfl rfl rfl
      · refine (es_st 4 (pc' := 245) (L' := [(0, .ref 31), (1, .int x0_1), (2, .int x0_2)]) (S' := [.int x0_1, .int (30 : Int32), .int (1 : Int32), .ref 31]) (h' := h1) rfl).trans ?_
        refine (es_cV (b := true) (k' := 49) (pc' := 248) (as := [.ref 31, .int (1 : Int32), .int (30 : Int32), .int x0_1]) (S' := []) (L' := [(0, .ref 31), (1, .int x0_1), (2, .int x0_2)]) (h' := h1) rfl rfl rfl rfl rfl).trans (kV_cg fun h8 => ?_)
        refine (es_st 2 (pc' := 250) (L' := [(0, .ref 31), (1, .int x0_1), (2, .int x0_2)]) (S' := [.int x0_2, .ref 31]) (h' := h8) rfl).trans ?_
        refine (es_cV (b := true) (k' := 67) (pc' := 253) (as := [.ref 31, .int x0_2]) (S' := []) (L' := [(0, .ref 31), (1, .int x0_1), (2, .int x0_2)]) (h' := h8) rfl rfl rfl rfl rfl).trans (kV_cg fun h9 => ?_)
        exact es_fin rfl rfl rfl
theorem sX3_done_0 (d : Nat) (hd : 4 ≤ d) (h : SG) : mS true d 73 [.ref 31] h = ob (rTake h 32) (fun q1 => ob (rTake q1.2 34) (fun q2 => if (sF q2.2 31 2) = 0 then some (.inl none, q2.2) else if (q1.1 - q1.1 / (16 : Int32) * (16 : Int32)) = (11 : Int32) then evS true d 73 38 [(0, .ref 31), (1, .int q1.1), (2, .int q2.1)] [.int (1 : Int32)] q2.2 else evS true d 73 38 [(0, .ref 31), (1, .int q1.1), (2, .int q2.1)] [.int (0 : Int32)] q2.2)) := by
  obtain ⟨d, rfl⟩ : ∃ e, d = e + 4 := ⟨d - 4, by omega⟩
  show evS true (d + 4) 73 0 [(0, .ref 31)] [] h = _
  refine (es_st 2 (pc' := 4) (L' := [(0, .ref 31)]) (S' := [.ref 32]) (h' := h) rfl).trans ?_
  refine (es_ob (o := rTake h 32) (pc' := 7) (L' := [(0, .ref 31)]) (S' := fun z => [.int z.1]) (h' := fun z => z.2) rfl rfl rfl).trans (ob_cg fun q1 => ?_)
  refine (es_st 3 (pc' := 12) (L' := [(1, .int q1.1), (0, .ref 31)]) (S' := [.ref 34]) (h' := q1.2) rfl).trans ?_
  refine (es_ob (o := rTake q1.2 34) (pc' := 15) (L' := [(1, .int q1.1), (0, .ref 31)]) (S' := fun z => [.int z.1]) (h' := fun z => z.2) rfl rfl rfl).trans (ob_cg fun q2 => ?_)
  refine (es_st 3 (pc' := 20) (L' := [(2, .int q2.1), (1, .int q1.1), (0, .ref 31)]) (S' := [.int (sF q2.2 31 2)]) (h' := q2.2) rfl).trans ?_
  refine (zs_ne (t := 24) rfl rfl rfl).trans (if_cg ?_ ?_)
  · exact es_fin rfl rfl rfl
  · refine (es_st 4 (pc' := 30) (L' := [(2, .int q2.1), (1, .int q1.1), (0, .ref 31)]) (S' := [.int (11 : Int32), .int (q1.1 - q1.1 / (16 : Int32) * (16 : Int32))]) (h' := q2.2) rfl).trans ?_
    refine (is_ne (t := 37) rfl rfl rfl).trans (if_cg ?_ ?_)
    · refine (es_st 2 (pc' := 38) (L' := [(2, .int q2.1), (1, .int q1.1), (0, .ref 31)]) (S' := [.int (1 : Int32)]) (h' := q2.2) rfl).trans ?_
      exact es_cut rfl rfl rfl
    · refine (es_st 1 (pc' := 38) (L' := [(2, .int q2.1), (1, .int q1.1), (0, .ref 31)]) (S' := [.int (0 : Int32)]) (h' := q2.2) rfl).trans ?_
      exact es_cut rfl rfl rfl
theorem sX3_done_38 (d : Nat) (hd : 4 ≤ d) (h : SG) (x0_1 : Int32) (x0_2 : Int32) (s0 : Int32) : evS true d 73 38 [(0, .ref 31), (1, .int x0_1), (2, .int x0_2)] [.int s0] h = ob (rTake h 36) (fun q1 => if s0 = 0 then ob (rTake q1.2 36) (fun q2 => if (x0_1 / (16 : Int32)) = (266 : Int32) then if (x0_1 / (16 : Int32)) = (260 : Int32) then evS true d 73 145 [(0, .ref 31), (1, .int (x0_1 / (16 : Int32))), (2, .int x0_2), (4, .int q1.1), (5, .int q2.1), (6, .int (1 : Int32))] [.int (1 : Int32)] q2.2 else if (x0_1 / (16 : Int32)) = (261 : Int32) then evS true d 73 145 [(0, .ref 31), (1, .int (x0_1 / (16 : Int32))), (2, .int x0_2), (4, .int q1.1), (5, .int q2.1), (6, .int (1 : Int32))] [.int (1 : Int32)] q2.2 else evS true d 73 145 [(0, .ref 31), (1, .int (x0_1 / (16 : Int32))), (2, .int x0_2), (4, .int q1.1), (5, .int q2.1), (6, .int (1 : Int32))] [.int (0 : Int32)] q2.2 else if (x0_1 / (16 : Int32)) = (267 : Int32) then if (x0_1 / (16 : Int32)) = (260 : Int32) then evS true d 73 145 [(0, .ref 31), (1, .int (x0_1 / (16 : Int32))), (2, .int x0_2), (4, .int q1.1), (5, .int q2.1), (6, .int (1 : Int32))] [.int (1 : Int32)] q2.2 else if (x0_1 / (16 : Int32)) = (261 : Int32) then evS true d 73 145 [(0, .ref 31), (1, .int (x0_1 / (16 : Int32))), (2, .int x0_2), (4, .int q1.1), (5, .int q2.1), (6, .int (1 : Int32))] [.int (1 : Int32)] q2.2 else evS true d 73 145 [(0, .ref 31), (1, .int (x0_1 / (16 : Int32))), (2, .int x0_2), (4, .int q1.1), (5, .int q2.1), (6, .int (1 : Int32))] [.int (0 : Int32)] q2.2 else if (x0_1 / (16 : Int32)) = (260 : Int32) then evS true d 73 145 [(0, .ref 31), (1, .int (x0_1 / (16 : Int32))), (2, .int x0_2), (4, .int q1.1), (5, .int q2.1), (6, .int (0 : Int32))] [.int (1 : Int32)] q2.2 else if (x0_1 / (16 : Int32)) = (261 : Int32) then evS true d 73 145 [(0, .ref 31), (1, .int (x0_1 / (16 : Int32))), (2, .int x0_2), (4, .int q1.1), (5, .int q2.1), (6, .int (0 : Int32))] [.int (1 : Int32)] q2.2 else evS true d 73 145 [(0, .ref 31), (1, .int (x0_1 / (16 : Int32))), (2, .int x0_2), (4, .int q1.1), (5, .int q2.1), (6, .int (0 : Int32))] [.int (0 : Int32)] q2.2) else kV (mS true (d - 1) 70 [.ref 31, .int q1.1] q1.2) (fun h3 => if (x0_1 / (16 : Int32)) = (126 : Int32) then ob (rAdd h3 36 q1.1) (fun q4 => kV (mS true (d - 1) 65 [.ref 31, .int (4 : Int32), .int (x0_1 / (16 : Int32))] q4.2) (fun h5 => some (.inl none, h5))) else if (x0_1 / (16 : Int32)) = (45 : Int32) then ob (rAdd h3 36 q1.1) (fun q8 => kV (mS true (d - 1) 65 [.ref 31, .int (4 : Int32), .int (x0_1 / (16 : Int32))] q8.2) (fun h9 => some (.inl none, h9))) else ob (rAdd h3 36 (1 : Int32)) (fun q6 => kV (mS true (d - 1) 65 [.ref 31, .int (4 : Int32), .int (x0_1 / (16 : Int32))] q6.2) (fun h7 => some (.inl none, h7))))) := by
  obtain ⟨d, rfl⟩ : ∃ e, d = e + 4 := ⟨d - 4, by omega⟩
  refine (es_st 7 (pc' := 48) (L' := [(1, .int (x0_1 / (16 : Int32))), (3, .int s0), (0, .ref 31), (2, .int x0_2)]) (S' := [.ref 36]) (h' := h) rfl).trans ?_
  refine (es_ob (o := rTake h 36) (pc' := 51) (L' := [(1, .int (x0_1 / (16 : Int32))), (3, .int s0), (0, .ref 31), (2, .int x0_2)]) (S' := fun z => [.int z.1]) (h' := fun z => z.2) rfl rfl rfl).trans (ob_cg fun q1 => ?_)
  refine (es_st 2 (pc' := 54) (L' := [(4, .int q1.1), (1, .int (x0_1 / (16 : Int32))), (3, .int s0), (0, .ref 31), (2, .int x0_2)]) (S' := [.int s0]) (h' := q1.2) rfl).trans ?_
  refine (zs_eq (t := 96) rfl rfl rfl).trans (if_cg ?_ ?_)
  · refine (es_st 2 (pc' := 100) (L' := [(4, .int q1.1), (1, .int (x0_1 / (16 : Int32))), (3, .int s0), (0, .ref 31), (2, .int x0_2)]) (S' := [.ref 36]) (h' := q1.2) rfl).trans ?_
    refine (es_ob (o := rTake q1.2 36) (pc' := 103) (L' := [(4, .int q1.1), (1, .int (x0_1 / (16 : Int32))), (3, .int s0), (0, .ref 31), (2, .int x0_2)]) (S' := fun z => [.int z.1]) (h' := fun z => z.2) rfl rfl rfl).trans (ob_cg fun q2 => ?_)
    refine (es_st 3 (pc' := 109) (L' := [(5, .int q2.1), (4, .int q1.1), (1, .int (x0_1 / (16 : Int32))), (3, .int s0), (0, .ref 31), (2, .int x0_2)]) (S' := [.int (266 : Int32), .int (x0_1 / (16 : Int32))]) (h' := q2.2) rfl).trans ?_
    refine (is_eq (t := 119) rfl rfl rfl).trans (if_cg ?_ ?_)
    · refine (es_st 5 (pc' := 130) (L' := [(6, .int (1 : Int32)), (5, .int q2.1), (4, .int q1.1), (1, .int (x0_1 / (16 : Int32))), (3, .int s0), (0, .ref 31), (2, .int x0_2)]) (S' := [.int (260 : Int32), .int (x0_1 / (16 : Int32))]) (h' := q2.2) rfl).trans ?_
      refine (is_eq (t := 140) rfl rfl rfl).trans (if_cg ?_ ?_)
      · refine (es_st 2 (pc' := 145) (L' := [(6, .int (1 : Int32)), (5, .int q2.1), (4, .int q1.1), (1, .int (x0_1 / (16 : Int32))), (3, .int s0), (0, .ref 31), (2, .int x0_2)]) (S' := [.int (1 : Int32)]) (h' := q2.2) rfl).trans ?_
        exact es_cut rfl rfl rfl
      · refine (es_st 2 (pc' := 137) (L' := [(6, .int (1 : Int32)), (5, .int q2.1), (4, .int q1.1), (1, .int (x0_1 / (16 : Int32))), (3, .int s0), (0, .ref 31), (2, .int x0_2)]) (S' := [.int (261 : Int32), .int (x0_1 / (16 : Int32))]) (h' := q2.2) rfl).trans ?_
        refine (is_ne (t := 144) rfl rfl rfl).trans (if_cg ?_ ?_)
        · refine (es_st 2 (pc' := 145) (L' := [(6, .int (1 : Int32)), (5, .int q2.1), (4, .int q1.1), (1, .int (x0_1 / (16 : Int32))), (3, .int s0), (0, .ref 31), (2, .int x0_2)]) (S' := [.int (1 : Int32)]) (h' := q2.2) rfl).trans ?_
          exact es_cut rfl rfl rfl
        · refine (es_st 1 (pc' := 145) (L' := [(6, .int (1 : Int32)), (5, .int q2.1), (4, .int q1.1), (1, .int (x0_1 / (16 : Int32))), (3, .int s0), (0, .ref 31), (2, .int x0_2)]) (S' := [.int (0 : Int32)]) (h' := q2.2) rfl).trans ?_
          exact es_cut rfl rfl rfl
    · refine (es_st 2 (pc' := 116) (L' := [(5, .int q2.1), (4, .int q1.1), (1, .int (x0_1 / (16 : Int32))), (3, .int s0), (0, .ref 31), (2, .int x0_2)]) (S' := [.int (267 : Int32), .int (x0_1 / (16 : Int32))]) (h' := q2.2) rfl).trans ?_
      refine (is_ne (t := 123) rfl rfl rfl).trans (if_cg ?_ ?_)
      · refine (es_st 5 (pc' := 130) (L' := [(6, .int (1 : Int32)), (5, .int q2.1), (4, .int q1.1), (1, .int (x0_1 / (16 : Int32))), (3, .int s0), (0, .ref 31), (2, .int x0_2)]) (S' := [.int (260 : Int32), .int (x0_1 / (16 : Int32))]) (h' := q2.2) rfl).trans ?_
        refine (is_eq (t := 140) rfl rfl rfl).trans (if_cg ?_ ?_)
        · refine (es_st 2 (pc' := 145) (L' := [(6, .int (1 : Int32)), (5, .int q2.1), (4, .int q1.1), (1, .int (x0_1 / (16 : Int32))), (3, .int s0), (0, .ref 31), (2, .int x0_2)]) (S' := [.int (1 : Int32)]) (h' := q2.2) rfl).trans ?_
          exact es_cut rfl rfl rfl
        · refine (es_st 2 (pc' := 137) (L' := [(6, .int (1 : Int32)), (5, .int q2.1), (4, .int q1.1), (1, .int (x0_1 / (16 : Int32))), (3, .int s0), (0, .ref 31), (2, .int x0_2)]) (S' := [.int (261 : Int32), .int (x0_1 / (16 : Int32))]) (h' := q2.2) rfl).trans ?_
          refine (is_ne (t := 144) rfl rfl rfl).trans (if_cg ?_ ?_)
          · refine (es_st 2 (pc' := 145) (L' := [(6, .int (1 : Int32)), (5, .int q2.1), (4, .int q1.1), (1, .int (x0_1 / (16 : Int32))), (3, .int s0), (0, .ref 31), (2, .int x0_2)]) (S' := [.int (1 : Int32)]) (h' := q2.2) rfl).trans ?_
            exact es_cut rfl rfl rfl
          · refine (es_st 1 (pc' := 145) (L' := [(6, .int (1 : Int32)), (5, .int q2.1), (4, .int q1.1), (1, .int (x0_1 / (16 : Int32))), (3, .int s0), (0, .ref 31), (2, .int x0_2)]) (S' := [.int (0 : Int32)]) (h' := q2.2) rfl).trans ?_
            exact es_cut rfl rfl rfl
      · refine (es_st 4 (pc' := 130) (L' := [(6, .int (0 : Int32)), (5, .int q2.1), (4, .int q1.1), (1, .int (x0_1 / (16 : Int32))), (3, .int s0), (0, .ref 31), (2, .int x0_2)]) (S' := [.int (260 : Int32), .int (x0_1 / (16 : Int32))]) (h' := q2.2) rfl).trans ?_
        refine (is_eq (t := 140) rfl rfl rfl).trans (if_cg ?_ ?_)
        · refine (es_st 2 (pc' := 145) (L' := [(6, .int (0 : Int32)), (5, .int q2.1), (4, .int q1.1), (1, .int (x0_1 / (16 : Int32))), (3, .int s0), (0, .ref 31), (2, .int x0_2)]) (S' := [.int (1 : Int32)]) (h' := q2.2) rfl).trans ?_
          exact es_cut rfl rfl rfl
        · refine (es_st 2 (pc' := 137) (L' := [(6, .int (0 : Int32)), (5, .int q2.1), (4, .int q1.1), (1, .int (x0_1 / (16 : Int32))), (3, .int s0), (0, .ref 31), (2, .int x0_2)]) (S' := [.int (261 : Int32), .int (x0_1 / (16 : Int32))]) (h' := q2.2) rfl).trans ?_
          refine (is_ne (t := 144) rfl rfl rfl).trans (if_cg ?_ ?_)
          · refine (es_st 2 (pc' := 145) (L' := [(6, .int (0 : Int32)), (5, .int q2.1), (4, .int q1.1), (1, .int (x0_1 / (16 : Int32))), (3, .int s0), (0, .ref 31), (2, .int x0_2)]) (S' := [.int (1 : Int32)]) (h' := q2.2) rfl).trans ?_
            exact es_cut rfl rfl rfl
          · refine (es_st 1 (pc' := 145) (L' := [(6, .int (0 : Int32)), (5, .int q2.1), (4, .int q1.1), (1, .int (x0_1 / (16 : Int32))), (3, .int s0), (0, .ref 31), (2, .int x0_2)]) (S' := [.int (0 : Int32)]) (h' := q2.2) rfl).trans ?_
            exact es_cut rfl rfl rfl
  · refine (es_st 2 (pc' := 60) (L' := [(4, .int q1.1), (1, .int (x0_1 / (16 : Int32))), (3, .int s0), (0, .ref 31), (2, .int x0_2)]) (S' := [.int q1.1, .ref 31]) (h' := q1.2) rfl).trans ?_
    refine (es_cV (b := true) (k' := 70) (pc' := 63) (as := [.ref 31, .int q1.1]) (S' := []) (L' := [(4, .int q1.1), (1, .int (x0_1 / (16 : Int32))), (3, .int s0), (0, .ref 31), (2, .int x0_2)]) (h' := q1.2) rfl rfl rfl rfl rfl).trans (kV_cg fun h3 => ?_)
    refine (es_st 4 (pc' := 70) (L' := [(4, .int q1.1), (1, .int (x0_1 / (16 : Int32))), (3, .int s0), (0, .ref 31), (2, .int x0_2)]) (S' := [.int (126 : Int32), .int (x0_1 / (16 : Int32)), .ref 36]) (h' := h3) rfl).trans ?_
    refine (is_eq (t := 79) rfl rfl rfl).trans (if_cg ?_ ?_)
    · refine (es_st 2 (pc' := 85) (L' := [(4, .int q1.1), (1, .int (x0_1 / (16 : Int32))), (3, .int s0), (0, .ref 31), (2, .int x0_2)]) (S' := [.int q1.1, .ref 36]) (h' := h3) rfl).trans ?_
      refine (es_ob (o := rAdd h3 36 q1.1) (pc' := 88) (L' := [(4, .int q1.1), (1, .int (x0_1 / (16 : Int32))), (3, .int s0), (0, .ref 31), (2, .int x0_2)]) (S' := fun z => [.int z.1]) (h' := fun z => z.2) rfl rfl rfl).trans (ob_cg fun q4 => ?_)
      refine (es_st 4 (pc' := 92) (L' := [(4, .int q1.1), (1, .int (x0_1 / (16 : Int32))), (3, .int s0), (0, .ref 31), (2, .int x0_2)]) (S' := [.int (x0_1 / (16 : Int32)), .int (4 : Int32), .ref 31]) (h' := q4.2) rfl).trans ?_
      refine (es_cV (b := true) (k' := 65) (pc' := 95) (as := [.ref 31, .int (4 : Int32), .int (x0_1 / (16 : Int32))]) (S' := []) (L' := [(4, .int q1.1), (1, .int (x0_1 / (16 : Int32))), (3, .int s0), (0, .ref 31), (2, .int x0_2)]) (h' := q4.2) rfl rfl rfl rfl rfl).trans (kV_cg fun h5 => ?_)
      exact es_fin rfl rfl rfl
    · refine (es_st 2 (pc' := 76) (L' := [(4, .int q1.1), (1, .int (x0_1 / (16 : Int32))), (3, .int s0), (0, .ref 31), (2, .int x0_2)]) (S' := [.int (45 : Int32), .int (x0_1 / (16 : Int32)), .ref 36]) (h' := h3) rfl).trans ?_
      refine (is_ne (t := 84) rfl rfl rfl).trans (if_cg ?_ ?_)
      · refine (es_st 2 (pc' := 85) (L' := [(4, .int q1.1), (1, .int (x0_1 / (16 : Int32))), (3, .int s0), (0, .ref 31), (2, .int x0_2)]) (S' := [.int q1.1, .ref 36]) (h' := h3) rfl).trans ?_
        refine (es_ob (o := rAdd h3 36 q1.1) (pc' := 88) (L' := [(4, .int q1.1), (1, .int (x0_1 / (16 : Int32))), (3, .int s0), (0, .ref 31), (2, .int x0_2)]) (S' := fun z => [.int z.1]) (h' := fun z => z.2) rfl rfl rfl).trans (ob_cg fun q8 => ?_)
        refine (es_st 4 (pc' := 92) (L' := [(4, .int q1.1), (1, .int (x0_1 / (16 : Int32))), (3, .int s0), (0, .ref 31), (2, .int x0_2)]) (S' := [.int (x0_1 / (16 : Int32)), .int (4 : Int32), .ref 31]) (h' := q8.2) rfl).trans ?_
        refine (es_cV (b := true) (k' := 65) (pc' := 95) (as := [.ref 31, .int (4 : Int32), .int (x0_1 / (16 : Int32))]) (S' := []) (L' := [(4, .int q1.1), (1, .int (x0_1 / (16 : Int32))), (3, .int s0), (0, .ref 31), (2, .int x0_2)]) (h' := q8.2) rfl rfl rfl rfl rfl).trans (kV_cg fun h9 => ?_)
        exact es_fin rfl rfl rfl
      · refine (es_st 1 (pc' := 85) (L' := [(4, .int q1.1), (1, .int (x0_1 / (16 : Int32))), (3, .int s0), (0, .ref 31), (2, .int x0_2)]) (S' := [.int (1 : Int32), .ref 36]) (h' := h3) rfl).trans ?_
        refine (es_ob (o := rAdd h3 36 (1 : Int32)) (pc' := 88) (L' := [(4, .int q1.1), (1, .int (x0_1 / (16 : Int32))), (3, .int s0), (0, .ref 31), (2, .int x0_2)]) (S' := fun z => [.int z.1]) (h' := fun z => z.2) rfl rfl rfl).trans (ob_cg fun q6 => ?_)
        refine (es_st 4 (pc' := 92) (L' := [(4, .int q1.1), (1, .int (x0_1 / (16 : Int32))), (3, .int s0), (0, .ref 31), (2, .int x0_2)]) (S' := [.int (x0_1 / (16 : Int32)), .int (4 : Int32), .ref 31]) (h' := q6.2) rfl).trans ?_
        refine (es_cV (b := true) (k' := 65) (pc' := 95) (as := [.ref 31, .int (4 : Int32), .int (x0_1 / (16 : Int32))]) (S' := []) (L' := [(4, .int q1.1), (1, .int (x0_1 / (16 : Int32))), (3, .int s0), (0, .ref 31), (2, .int x0_2)]) (h' := q6.2) rfl rfl rfl rfl rfl).trans (kV_cg fun h7 => ?_)
        exact es_fin rfl rfl rfl
theorem sX3_done_145 (d : Nat) (hd : 4 ≤ d) (h : SG) (x0_1 : Int32) (x0_2 : Int32) (x0_4 : Int32) (x0_5 : Int32) (x0_6 : Int32) (s0 : Int32) : evS true d 73 145 [(0, .ref 31), (1, .int x0_1), (2, .int x0_2), (4, .int x0_4), (5, .int x0_5), (6, .int x0_6)] [.int s0] h = if x0_6 = 0 then if s0 = 0 then if x0_5 = x0_4 then kV (mS true (d - 1) 49 [.ref 31, .int (1 : Int32), .int (30 : Int32), .int x0_2] h) (fun h4 => if x0_6 = 0 then if x0_1 = (42 : Int32) then evS true d 73 213 [(0, .ref 31), (1, .int x0_1), (5, .int x0_5), (7, .int s0)] [.int (x0_5 * x0_5), .ref 31] h4 else evS true d 73 213 [(0, .ref 31), (1, .int x0_1), (5, .int x0_5), (7, .int s0)] [.int (mxI x0_5 x0_4), .ref 31] h4 else evS true d 73 213 [(0, .ref 31), (1, .int x0_1), (5, .int x0_5), (7, .int s0)] [.int (((3 : Int32) * x0_5) + x0_4), .ref 31] h4) else kV (mS true (d - 1) 49 [.ref 31, .int (0 : Int32), .int (30 : Int32), .int x0_2] h) (fun h3 => if x0_6 = 0 then if x0_1 = (42 : Int32) then evS true d 73 213 [(0, .ref 31), (1, .int x0_1), (5, .int x0_5), (7, .int s0)] [.int (x0_5 * x0_5), .ref 31] h3 else evS true d 73 213 [(0, .ref 31), (1, .int x0_1), (5, .int x0_5), (7, .int s0)] [.int (mxI x0_5 x0_4), .ref 31] h3 else evS true d 73 213 [(0, .ref 31), (1, .int x0_1), (5, .int x0_5), (7, .int s0)] [.int (((3 : Int32) * x0_5) + x0_4), .ref 31] h3) else kV (mS true (d - 1) 49 [.ref 31, .int (1 : Int32), .int (30 : Int32), .int x0_2] h) (fun h2 => if x0_6 = 0 then if x0_1 = (42 : Int32) then evS true d 73 213 [(0, .ref 31), (1, .int x0_1), (5, .int x0_5), (7, .int s0)] [.int (x0_5 * x0_5), .ref 31] h2 else evS true d 73 213 [(0, .ref 31), (1, .int x0_1), (5, .int x0_5), (7, .int s0)] [.int (mxI x0_5 x0_4), .ref 31] h2 else evS true d 73 213 [(0, .ref 31), (1, .int x0_1), (5, .int x0_5), (7, .int s0)] [.int (((3 : Int32) * x0_5) + x0_4), .ref 31] h2) else kV (mS true (d - 1) 49 [.ref 31, .int (1 : Int32), .int (30 : Int32), .int x0_2] h) (fun h1 => if x0_6 = 0 then if x0_1 = (42 : Int32) then evS true d 73 213 [(0, .ref 31), (1, .int x0_1), (5, .int x0_5), (7, .int s0)] [.int (x0_5 * x0_5), .ref 31] h1 else evS true d 73 213 [(0, .ref 31), (1, .int x0_1), (5, .int x0_5), (7, .int s0)] [.int (mxI x0_5 x0_4), .ref 31] h1 else evS true d 73 213 [(0, .ref 31), (1, .int x0_1), (5, .int x0_5), (7, .int s0)] [.int (((3 : Int32) * x0_5) + x0_4), .ref 31] h1) := by
  obtain ⟨d, rfl⟩ : ∃ e, d = e + 4 := ⟨d - 4, by omega⟩
  refine (es_st 3 (pc' := 150) (L' := [(7, .int s0), (0, .ref 31), (1, .int x0_1), (2, .int x0_2), (4, .int x0_4), (5, .int x0_5), (6, .int x0_6)]) (S' := [.int x0_6, .ref 31]) (h' := h) rfl).trans ?_
  refine (zs_ne (t := 165) rfl rfl rfl).trans (if_cg ?_ ?_)
  · refine (es_st 1 (pc' := 155) (L' := [(7, .int s0), (0, .ref 31), (1, .int x0_1), (2, .int x0_2), (4, .int x0_4), (5, .int x0_5), (6, .int x0_6)]) (S' := [.int s0, .ref 31]) (h' := h) rfl).trans ?_
    refine (zs_ne (t := 165) rfl rfl rfl).trans (if_cg ?_ ?_)
    · refine (es_st 2 (pc' := 162) (L' := [(7, .int s0), (0, .ref 31), (1, .int x0_1), (2, .int x0_2), (4, .int x0_4), (5, .int x0_5), (6, .int x0_6)]) (S' := [.int x0_4, .int x0_5, .ref 31]) (h' := h) rfl).trans ?_
      refine (is_ne (t := 169) rfl rfl rfl).trans (if_cg ?_ ?_)
      · refine (es_st 4 (pc' := 173) (L' := [(7, .int s0), (0, .ref 31), (1, .int x0_1), (2, .int x0_2), (4, .int x0_4), (5, .int x0_5), (6, .int x0_6)]) (S' := [.int x0_2, .int (30 : Int32), .int (1 : Int32), .ref 31]) (h' := h) rfl).trans ?_
        refine (es_cV (b := true) (k' := 49) (pc' := 176) (as := [.ref 31, .int (1 : Int32), .int (30 : Int32), .int x0_2]) (S' := []) (L' := [(7, .int s0), (0, .ref 31), (1, .int x0_1), (2, .int x0_2), (4, .int x0_4), (5, .int x0_5), (6, .int x0_6)]) (h' := h) rfl rfl rfl rfl rfl).trans (kV_cg fun h4 => ?_)
        refine (es_st 2 (pc' := 179) (L' := [(7, .int s0), (0, .ref 31), (1, .int x0_1), (2, .int x0_2), (4, .int x0_4), (5, .int x0_5), (6, .int x0_6)]) (S' := [.int x0_6, .ref 31]) (h' := h4) rfl).trans ?_
        refine (zs_eq (t := 192) rfl rfl rfl).trans (if_cg ?_ ?_)
        · refine (es_st 2 (pc' := 195) (L' := [(7, .int s0), (0, .ref 31), (1, .int x0_1), (2, .int x0_2), (4, .int x0_4), (5, .int x0_5), (6, .int x0_6)]) (S' := [.int (42 : Int32), .int x0_1, .ref 31]) (h' := h4) rfl).trans ?_
          refine (is_ne (t := 206) rfl rfl rfl).trans (if_cg ?_ ?_)
          · refine (es_st 4 (pc' := 213) (L' := [(7, .int s0), (0, .ref 31), (1, .int x0_1), (2, .int x0_2), (4, .int x0_4), (5, .int x0_5), (6, .int x0_6)]) (S' := [.int (x0_5 * x0_5), .ref 31]) (h' := h4) rfl).trans ?_
            exact es_cut rfl rfl rfl
          · refine (es_st 3 (pc' := 213) (L' := [(7, .int s0), (0, .ref 31), (1, .int x0_1), (2, .int x0_2), (4, .int x0_4), (5, .int x0_5), (6, .int x0_6)]) (S' := [.int (mxI x0_5 x0_4), .ref 31]) (h' := h4) rfl).trans ?_
            exact es_cut rfl rfl rfl
        · refine (es_st 6 (pc' := 213) (L' := [(7, .int s0), (0, .ref 31), (1, .int x0_1), (2, .int x0_2), (4, .int x0_4), (5, .int x0_5), (6, .int x0_6)]) (S' := [.int (((3 : Int32) * x0_5) + x0_4), .ref 31]) (h' := h4) rfl).trans ?_
          exact es_cut rfl rfl rfl
      · refine (es_st 3 (pc' := 173) (L' := [(7, .int s0), (0, .ref 31), (1, .int x0_1), (2, .int x0_2), (4, .int x0_4), (5, .int x0_5), (6, .int x0_6)]) (S' := [.int x0_2, .int (30 : Int32), .int (0 : Int32), .ref 31]) (h' := h) rfl).trans ?_
        refine (es_cV (b := true) (k' := 49) (pc' := 176) (as := [.ref 31, .int (0 : Int32), .int (30 : Int32), .int x0_2]) (S' := []) (L' := [(7, .int s0), (0, .ref 31), (1, .int x0_1), (2, .int x0_2), (4, .int x0_4), (5, .int x0_5), (6, .int x0_6)]) (h' := h) rfl rfl rfl rfl rfl).trans (kV_cg fun h3 => ?_)
        refine (es_st 2 (pc' := 179) (L' := [(7, .int s0), (0, .ref 31), (1, .int x0_1), (2, .int x0_2), (4, .int x0_4), (5, .int x0_5), (6, .int x0_6)]) (S' := [.int x0_6, .ref 31]) (h' := h3) rfl).trans ?_
        refine (zs_eq (t := 192) rfl rfl rfl).trans (if_cg ?_ ?_)
        · refine (es_st 2 (pc' := 195) (L' := [(7, .int s0), (0, .ref 31), (1, .int x0_1), (2, .int x0_2), (4, .int x0_4), (5, .int x0_5), (6, .int x0_6)]) (S' := [.int (42 : Int32), .int x0_1, .ref 31]) (h' := h3) rfl).trans ?_
          refine (is_ne (t := 206) rfl rfl rfl).trans (if_cg ?_ ?_)
          · refine (es_st 4 (pc' := 213) (L' := [(7, .int s0), (0, .ref 31), (1, .int x0_1), (2, .int x0_2), (4, .int x0_4), (5, .int x0_5), (6, .int x0_6)]) (S' := [.int (x0_5 * x0_5), .ref 31]) (h' := h3) rfl).trans ?_
            exact es_cut rfl rfl rfl
          · refine (es_st 3 (pc' := 213) (L' := [(7, .int s0), (0, .ref 31), (1, .int x0_1), (2, .int x0_2), (4, .int x0_4), (5, .int x0_5), (6, .int x0_6)]) (S' := [.int (mxI x0_5 x0_4), .ref 31]) (h' := h3) rfl).trans ?_
            exact es_cut rfl rfl rfl
        · refine (es_st 6 (pc' := 213) (L' := [(7, .int s0), (0, .ref 31), (1, .int x0_1), (2, .int x0_2), (4, .int x0_4), (5, .int x0_5), (6, .int x0_6)]) (S' := [.int (((3 : Int32) * x0_5) + x0_4), .ref 31]) (h' := h3) rfl).trans ?_
          exact es_cut rfl rfl rfl
    · refine (es_st 4 (pc' := 173) (L' := [(7, .int s0), (0, .ref 31), (1, .int x0_1), (2, .int x0_2), (4, .int x0_4), (5, .int x0_5), (6, .int x0_6)]) (S' := [.int x0_2, .int (30 : Int32), .int (1 : Int32), .ref 31]) (h' := h) rfl).trans ?_
      refine (es_cV (b := true) (k' := 49) (pc' := 176) (as := [.ref 31, .int (1 : Int32), .int (30 : Int32), .int x0_2]) (S' := []) (L' := [(7, .int s0), (0, .ref 31), (1, .int x0_1), (2, .int x0_2), (4, .int x0_4), (5, .int x0_5), (6, .int x0_6)]) (h' := h) rfl rfl rfl rfl rfl).trans (kV_cg fun h2 => ?_)
      refine (es_st 2 (pc' := 179) (L' := [(7, .int s0), (0, .ref 31), (1, .int x0_1), (2, .int x0_2), (4, .int x0_4), (5, .int x0_5), (6, .int x0_6)]) (S' := [.int x0_6, .ref 31]) (h' := h2) rfl).trans ?_
      refine (zs_eq (t := 192) rfl rfl rfl).trans (if_cg ?_ ?_)
      · refine (es_st 2 (pc' := 195) (L' := [(7, .int s0), (0, .ref 31), (1, .int x0_1), (2, .int x0_2), (4, .int x0_4), (5, .int x0_5), (6, .int x0_6)]) (S' := [.int (42 : Int32), .int x0_1, .ref 31]) (h' := h2) rfl).trans ?_
        refine (is_ne (t := 206) rfl rfl rfl).trans (if_cg ?_ ?_)
        · refine (es_st 4 (pc' := 213) (L' := [(7, .int s0), (0, .ref 31), (1, .int x0_1), (2, .int x0_2), (4, .int x0_4), (5, .int x0_5), (6, .int x0_6)]) (S' := [.int (x0_5 * x0_5), .ref 31]) (h' := h2) rfl).trans ?_
          exact es_cut rfl rfl rfl
        · refine (es_st 3 (pc' := 213) (L' := [(7, .int s0), (0, .ref 31), (1, .int x0_1), (2, .int x0_2), (4, .int x0_4), (5, .int x0_5), (6, .int x0_6)]) (S' := [.int (mxI x0_5 x0_4), .ref 31]) (h' := h2) rfl).trans ?_
          exact es_cut rfl rfl rfl
      · refine (es_st 6 (pc' := 213) (L' := [(7, .int s0), (0, .ref 31), (1, .int x0_1), (2, .int x0_2), (4, .int x0_4), (5, .int x0_5), (6, .int x0_6)]) (S' := [.int (((3 : Int32) * x0_5) + x0_4), .ref 31]) (h' := h2) rfl).trans ?_
        exact es_cut rfl rfl rfl
  · refine (es_st 4 (pc' := 173) (L' := [(7, .int s0), (0, .ref 31), (1, .int x0_1), (2, .int x0_2), (4, .int x0_4), (5, .int x0_5), (6, .int x0_6)]) (S' := [.int x0_2, .int (30 : Int32), .int (1 : Int32), .ref 31]) (h' := h) rfl).trans ?_
    refine (es_cV (b := true) (k' := 49) (pc' := 176) (as := [.ref 31, .int (1 : Int32), .int (30 : Int32), .int x0_2]) (S' := []) (L' := [(7, .int s0), (0, .ref 31), (1, .int x0_1), (2, .int x0_2), (4, .int x0_4), (5, .int x0_5), (6, .int x0_6)]) (h' := h) rfl rfl rfl rfl rfl).trans (kV_cg fun h1 => ?_)
    refine (es_st 2 (pc' := 179) (L' := [(7, .int s0), (0, .ref 31), (1, .int x0_1), (2, .int x0_2), (4, .int x0_4), (5, .int x0_5), (6, .int x0_6)]) (S' := [.int x0_6, .ref 31]) (h' := h1) rfl).trans ?_
    refine (zs_eq (t := 192) rfl rfl rfl).trans (if_cg ?_ ?_)
    · refine (es_st 2 (pc' := 195) (L' := [(7, .int s0), (0, .ref 31), (1, .int x0_1), (2, .int x0_2), (4, .int x0_4), (5, .int x0_5), (6, .int x0_6)]) (S' := [.int (42 : Int32), .int x0_1, .ref 31]) (h' := h1) rfl).trans ?_
      refine (is_ne (t := 206) rfl rfl rfl).trans (if_cg ?_ ?_)
      · refine (es_st 4 (pc' := 213) (L' := [(7, .int s0), (0, .ref 31), (1, .int x0_1), (2, .int x0_2), (4, .int x0_4), (5, .int x0_5), (6, .int x0_6)]) (S' := [.int (x0_5 * x0_5), .ref 31]) (h' := h1) rfl).trans ?_
        exact es_cut rfl rfl rfl
      · refine (es_st 3 (pc' := 213) (L' := [(7, .int s0), (0, .ref 31), (1, .int x0_1), (2, .int x0_2), (4, .int x0_4), (5, .int x0_5), (6, .int x0_6)]) (S' := [.int (mxI x0_5 x0_4), .ref 31]) (h' := h1) rfl).trans ?_
        exact es_cut rfl rfl rfl
    · refine (es_st 6 (pc' := 213) (L' := [(7, .int s0), (0, .ref 31), (1, .int x0_1), (2, .int x0_2), (4, .int x0_4), (5, .int x0_5), (6, .int x0_6)]) (S' := [.int (((3 : Int32) * x0_5) + x0_4), .ref 31]) (h' := h1) rfl).trans ?_
      exact es_cut rfl rfl rfl
theorem sX3_done_213 (d : Nat) (hd : 4 ≤ d) (h : SG) (x0_1 : Int32) (x0_5 : Int32) (x0_7 : Int32) (s0 : Int32) : evS true d 73 213 [(0, .ref 31), (1, .int x0_1), (5, .int x0_5), (7, .int x0_7)] [.int s0, .ref 31] h = kV (mS true (d - 1) 70 [.ref 31, .int s0] h) (fun h1 => kI (mS true (d - 1) 74 [.int x0_1] h1) (fun x3 h2 => if x0_7 = 0 then if x3 = (6 : Int32) then ob (rAdd h2 36 (1 : Int32)) (fun q6 => kV (mS true (d - 1) 65 [.ref 31, .int (5 : Int32), .int x0_1] q6.2) (fun h7 => some (.inl none, h7))) else if x3 = (7 : Int32) then ob (rAdd h2 36 (1 : Int32)) (fun q10 => kV (mS true (d - 1) 65 [.ref 31, .int (5 : Int32), .int x0_1] q10.2) (fun h11 => some (.inl none, h11))) else ob (rAdd h2 36 x0_5) (fun q8 => kV (mS true (d - 1) 65 [.ref 31, .int (5 : Int32), .int x0_1] q8.2) (fun h9 => some (.inl none, h9))) else ob (rAdd h2 36 (1 : Int32)) (fun q4 => kV (mS true (d - 1) 65 [.ref 31, .int (5 : Int32), .int x0_1] q4.2) (fun h5 => some (.inl none, h5))))) := by
  obtain ⟨d, rfl⟩ : ∃ e, d = e + 4 := ⟨d - 4, by omega⟩
  refine (es_cV (b := true) (k' := 70) (pc' := 216) (as := [.ref 31, .int s0]) (S' := []) (L' := [(0, .ref 31), (1, .int x0_1), (5, .int x0_5), (7, .int x0_7)]) (h' := h) rfl rfl rfl rfl rfl).trans (kV_cg fun h1 => ?_)
  refine (es_st 1 (pc' := 217) (L' := [(0, .ref 31), (1, .int x0_1), (5, .int x0_5), (7, .int x0_7)]) (S' := [.int x0_1]) (h' := h1) rfl).trans ?_
  refine (es_cI (b := true) (k' := 74) (pc' := 220) (as := [.int x0_1]) (S' := []) (L' := [(0, .ref 31), (1, .int x0_1), (5, .int x0_5), (7, .int x0_7)]) (h' := h1) rfl rfl rfl rfl rfl).trans (kI_cg fun x3 h2 => ?_)
  refine (es_st 4 (pc' := 228) (L' := [(8, .int x3), (0, .ref 31), (1, .int x0_1), (5, .int x0_5), (7, .int x0_7)]) (S' := [.int x0_7, .ref 36]) (h' := h2) rfl).trans ?_
  refine (zs_ne (t := 245) rfl rfl rfl).trans (if_cg ?_ ?_)
  · refine (es_st 2 (pc' := 235) (L' := [(8, .int x3), (0, .ref 31), (1, .int x0_1), (5, .int x0_5), (7, .int x0_7)]) (S' := [.int (6 : Int32), .int x3, .ref 36]) (h' := h2) rfl).trans ?_
    refine (is_eq (t := 245) rfl rfl rfl).trans (if_cg ?_ ?_)
    · refine (es_st 2 (pc' := 251) (L' := [(8, .int x3), (0, .ref 31), (1, .int x0_1), (5, .int x0_5), (7, .int x0_7)]) (S' := [.int (1 : Int32), .ref 36]) (h' := h2) rfl).trans ?_
      refine (es_ob (o := rAdd h2 36 (1 : Int32)) (pc' := 254) (L' := [(8, .int x3), (0, .ref 31), (1, .int x0_1), (5, .int x0_5), (7, .int x0_7)]) (S' := fun z => [.int z.1]) (h' := fun z => z.2) rfl rfl rfl).trans (ob_cg fun q6 => ?_)
      refine (es_st 4 (pc' := 258) (L' := [(8, .int x3), (0, .ref 31), (1, .int x0_1), (5, .int x0_5), (7, .int x0_7)]) (S' := [.int x0_1, .int (5 : Int32), .ref 31]) (h' := q6.2) rfl).trans ?_
      refine (es_cV (b := true) (k' := 65) (pc' := 261) (as := [.ref 31, .int (5 : Int32), .int x0_1]) (S' := []) (L' := [(8, .int x3), (0, .ref 31), (1, .int x0_1), (5, .int x0_5), (7, .int x0_7)]) (h' := q6.2) rfl rfl rfl rfl rfl).trans (kV_cg fun h7 => ?_)
      exact es_fin rfl rfl rfl
    · refine (es_st 2 (pc' := 242) (L' := [(8, .int x3), (0, .ref 31), (1, .int x0_1), (5, .int x0_5), (7, .int x0_7)]) (S' := [.int (7 : Int32), .int x3, .ref 36]) (h' := h2) rfl).trans ?_
      refine (is_ne (t := 249) rfl rfl rfl).trans (if_cg ?_ ?_)
      · refine (es_st 2 (pc' := 251) (L' := [(8, .int x3), (0, .ref 31), (1, .int x0_1), (5, .int x0_5), (7, .int x0_7)]) (S' := [.int (1 : Int32), .ref 36]) (h' := h2) rfl).trans ?_
        refine (es_ob (o := rAdd h2 36 (1 : Int32)) (pc' := 254) (L' := [(8, .int x3), (0, .ref 31), (1, .int x0_1), (5, .int x0_5), (7, .int x0_7)]) (S' := fun z => [.int z.1]) (h' := fun z => z.2) rfl rfl rfl).trans (ob_cg fun q10 => ?_)
        refine (es_st 4 (pc' := 258) (L' := [(8, .int x3), (0, .ref 31), (1, .int x0_1), (5, .int x0_5), (7, .int x0_7)]) (S' := [.int x0_1, .int (5 : Int32), .ref 31]) (h' := q10.2) rfl).trans ?_
        refine (es_cV (b := true) (k' := 65) (pc' := 261) (as := [.ref 31, .int (5 : Int32), .int x0_1]) (S' := []) (L' := [(8, .int x3), (0, .ref 31), (1, .int x0_1), (5, .int x0_5), (7, .int x0_7)]) (h' := q10.2) rfl rfl rfl rfl rfl).trans (kV_cg fun h11 => ?_)
        exact es_fin rfl rfl rfl
      · refine (es_st 1 (pc' := 251) (L' := [(8, .int x3), (0, .ref 31), (1, .int x0_1), (5, .int x0_5), (7, .int x0_7)]) (S' := [.int x0_5, .ref 36]) (h' := h2) rfl).trans ?_
        refine (es_ob (o := rAdd h2 36 x0_5) (pc' := 254) (L' := [(8, .int x3), (0, .ref 31), (1, .int x0_1), (5, .int x0_5), (7, .int x0_7)]) (S' := fun z => [.int z.1]) (h' := fun z => z.2) rfl rfl rfl).trans (ob_cg fun q8 => ?_)
        refine (es_st 4 (pc' := 258) (L' := [(8, .int x3), (0, .ref 31), (1, .int x0_1), (5, .int x0_5), (7, .int x0_7)]) (S' := [.int x0_1, .int (5 : Int32), .ref 31]) (h' := q8.2) rfl).trans ?_
        refine (es_cV (b := true) (k' := 65) (pc' := 261) (as := [.ref 31, .int (5 : Int32), .int x0_1]) (S' := []) (L' := [(8, .int x3), (0, .ref 31), (1, .int x0_1), (5, .int x0_5), (7, .int x0_7)]) (h' := q8.2) rfl rfl rfl rfl rfl).trans (kV_cg fun h9 => ?_)
        exact es_fin rfl rfl rfl
  · refine (es_st 2 (pc' := 251) (L' := [(8, .int x3), (0, .ref 31), (1, .int x0_1), (5, .int x0_5), (7, .int x0_7)]) (S' := [.int (1 : Int32), .ref 36]) (h' := h2) rfl).trans ?_
    refine (es_ob (o := rAdd h2 36 (1 : Int32)) (pc' := 254) (L' := [(8, .int x3), (0, .ref 31), (1, .int x0_1), (5, .int x0_5), (7, .int x0_7)]) (S' := fun z => [.int z.1]) (h' := fun z => z.2) rfl rfl rfl).trans (ob_cg fun q4 => ?_)
    refine (es_st 4 (pc' := 258) (L' := [(8, .int x3), (0, .ref 31), (1, .int x0_1), (5, .int x0_5), (7, .int x0_7)]) (S' := [.int x0_1, .int (5 : Int32), .ref 31]) (h' := q4.2) rfl).trans ?_
    refine (es_cV (b := true) (k' := 65) (pc' := 261) (as := [.ref 31, .int (5 : Int32), .int x0_1]) (S' := []) (L' := [(8, .int x3), (0, .ref 31), (1, .int x0_1), (5, .int x0_5), (7, .int x0_7)]) (h' := q4.2) rfl rfl rfl rfl rfl).trans (kV_cg fun h5 => ?_)
    exact es_fin rfl rfl rfl
theorem sX3_rank_0 (d : Nat) (h : SG) (x0_0 : Int32) : mS true d 74 [.int x0_0] h = if x0_0 = (38 : Int32) then some (.inl (some (.int (5 : Int32))), h) else if x0_0 = (42 : Int32) then some (.inl (some (.int (10 : Int32))), h) else if x0_0 = (43 : Int32) then some (.inl (some (.int (9 : Int32))), h) else if x0_0 = (45 : Int32) then some (.inl (some (.int (9 : Int32))), h) else if x0_0 = (60 : Int32) then some (.inl (some (.int (7 : Int32))), h) else if x0_0 = (62 : Int32) then some (.inl (some (.int (7 : Int32))), h) else if x0_0 = (94 : Int32) then some (.inl (some (.int (4 : Int32))), h) else if x0_0 = (124 : Int32) then some (.inl (some (.int (3 : Int32))), h) else if x0_0 = (260 : Int32) then some (.inl (some (.int (2 : Int32))), h) else if x0_0 = (261 : Int32) then some (.inl (some (.int (1 : Int32))), h) else if x0_0 = (262 : Int32) then some (.inl (some (.int (6 : Int32))), h) else if x0_0 = (263 : Int32) then some (.inl (some (.int (6 : Int32))), h) else if x0_0 = (264 : Int32) then some (.inl (some (.int (7 : Int32))), h) else if x0_0 = (265 : Int32) then some (.inl (some (.int (7 : Int32))), h) else if x0_0 = (266 : Int32) then some (.inl (some (.int (8 : Int32))), h) else if x0_0 = (267 : Int32) then some (.inl (some (.int (8 : Int32))), h) else some (.inl (some (.int (0 : Int32))), h) := by
  show evS true d 74 0 [(0, .int x0_0)] [] h = _
  refine (es_st 1 (pc' := 1) (L' := [(0, .int x0_0)]) (S' := [.int x0_0]) (h' := h) rfl).trans ?_
  refine (es_sw (a := x0_0) (cs := [((38 : Int32), 148), ((42 : Int32), 162), ((43 : Int32), 159), ((45 : Int32), 159), ((60 : Int32), 153), ((62 : Int32), 153), ((94 : Int32), 146), ((124 : Int32), 144), ((260 : Int32), 142), ((261 : Int32), 140), ((262 : Int32), 150), ((263 : Int32), 150), ((264 : Int32), 153), ((265 : Int32), 153), ((266 : Int32), 156), ((267 : Int32), 156)]) (df := 165) (L' := [(0, .int x0_0)]) (S' := []) rfl rfl rfl).trans ?_
  refine ss_cons.trans (if_cg ?_ ?_)
  · refine (es_st 1 (pc' := 149) (L' := [(0, .int x0_0)]) (S' := [.int (5 : Int32)]) (h' := h) rfl).trans ?_
    exact es_fin rfl rfl rfl
  · refine ss_cons.trans (if_cg ?_ ?_)
    · refine (es_st 1 (pc' := 164) (L' := [(0, .int x0_0)]) (S' := [.int (10 : Int32)]) (h' := h) rfl).trans ?_
      exact es_fin rfl rfl rfl
    · refine ss_cons.trans (if_cg ?_ ?_)
      · refine (es_st 1 (pc' := 161) (L' := [(0, .int x0_0)]) (S' := [.int (9 : Int32)]) (h' := h) rfl).trans ?_
        exact es_fin rfl rfl rfl
      · refine ss_cons.trans (if_cg ?_ ?_)
        · refine (es_st 1 (pc' := 161) (L' := [(0, .int x0_0)]) (S' := [.int (9 : Int32)]) (h' := h) rfl).trans ?_
          exact es_fin rfl rfl rfl
        · refine ss_cons.trans (if_cg ?_ ?_)
          · refine (es_st 1 (pc' := 155) (L' := [(0, .int x0_0)]) (S' := [.int (7 : Int32)]) (h' := h) rfl).trans ?_
            exact es_fin rfl rfl rfl
          · refine ss_cons.trans (if_cg ?_ ?_)
            · refine (es_st 1 (pc' := 155) (L' := [(0, .int x0_0)]) (S' := [.int (7 : Int32)]) (h' := h) rfl).trans ?_
              exact es_fin rfl rfl rfl
            · refine ss_cons.trans (if_cg ?_ ?_)
              · refine (es_st 1 (pc' := 147) (L' := [(0, .int x0_0)]) (S' := [.int (4 : Int32)]) (h' := h) rfl).trans ?_
                exact es_fin rfl rfl rfl
              · refine ss_cons.trans (if_cg ?_ ?_)
                · refine (es_st 1 (pc' := 145) (L' := [(0, .int x0_0)]) (S' := [.int (3 : Int32)]) (h' := h) rfl).trans ?_
                  exact es_fin rfl rfl rfl
                · refine ss_cons.trans (if_cg ?_ ?_)
                  · refine (es_st 1 (pc' := 143) (L' := [(0, .int x0_0)]) (S' := [.int (2 : Int32)]) (h' := h) rfl).trans ?_
                    exact es_fin rfl rfl rfl
                  · refine ss_cons.trans (if_cg ?_ ?_)
                    · refine (es_st 1 (pc' := 141) (L' := [(0, .int x0_0)]) (S' := [.int (1 : Int32)]) (h' := h) rfl).trans ?_
                      exact es_fin rfl rfl rfl
                    · refine ss_cons.trans (if_cg ?_ ?_)
                      · refine (es_st 1 (pc' := 152) (L' := [(0, .int x0_0)]) (S' := [.int (6 : Int32)]) (h' := h) rfl).trans ?_
                        exact es_fin rfl rfl rfl
                      · refine ss_cons.trans (if_cg ?_ ?_)
                        · refine (es_st 1 (pc' := 152) (L' := [(0, .int x0_0)]) (S' := [.int (6 : Int32)]) (h' := h) rfl).trans ?_
                          exact es_fin rfl rfl rfl
                        · refine ss_cons.trans (if_cg ?_ ?_)
                          · refine (es_st 1 (pc' := 155) (L' := [(0, .int x0_0)]) (S' := [.int (7 : Int32)]) (h' := h) rfl).trans ?_
                            exact es_fin rfl rfl rfl
                          · refine ss_cons.trans (if_cg ?_ ?_)
                            · refine (es_st 1 (pc' := 155) (L' := [(0, .int x0_0)]) (S' := [.int (7 : Int32)]) (h' := h) rfl).trans ?_
                              exact es_fin rfl rfl rfl
                            · refine ss_cons.trans (if_cg ?_ ?_)
                              · refine (es_st 1 (pc' := 158) (L' := [(0, .int x0_0)]) (S' := [.int (8 : Int32)]) (h' := h) rfl).trans ?_
                                exact es_fin rfl rfl rfl
                              · refine ss_cons.trans (if_cg ?_ ?_)
                                · refine (es_st 1 (pc' := 158) (L' := [(0, .int x0_0)]) (S' := [.int (8 : Int32)]) (h' := h) rfl).trans ?_
                                  exact es_fin rfl rfl rfl
                                · refine (es_st 1 (pc' := 166) (L' := [(0, .int x0_0)]) (S' := [.int (0 : Int32)]) (h' := h) rfl).trans ?_
                                  exact es_fin rfl rfl rfl
theorem sX3_choice_0 (d : Nat) (hd : 4 ≤ d) (h : SG) : mS true d 75 [.ref 31] h = kV (mS true (d - 1) 69 [.ref 31] h) (fun h1 => kV (mS true (d - 1) 30 [.ref 27] h1) (fun h2 => kV (mS true (d - 1) 61 [.ref 31] h2) (fun h3 => kV (mS true (d - 1) 44 [.ref 27, .int (58 : Int32)] h3) (fun h4 => kV (mS true (d - 1) 61 [.ref 31] h4) (fun h5 => if (sF (uF h5 31 4 ((sF h5 31 4) - (1 : Int32))) 31 2) = 0 then some (.inl none, (uF h5 31 4 ((sF h5 31 4) - (1 : Int32)))) else ob (rTake (uF h5 31 4 ((sF h5 31 4) - (1 : Int32))) 36) (fun q6 => ob (rTake q6.2 36) (fun q7 => ob (rTake q7.2 36) (fun q8 => if q7.1 = q6.1 then evS true d 75 90 [(0, .ref 31), (1, .int (sF h 27 7)), (3, .int q7.1), (4, .int q8.1)] [.int (1 : Int32), .ref 31] q8.2 else evS true d 75 90 [(0, .ref 31), (1, .int (sF h 27 7)), (3, .int q7.1), (4, .int q8.1)] [.int (0 : Int32), .ref 31] q8.2)))))))) := by
  obtain ⟨d, rfl⟩ : ∃ e, d = e + 4 := ⟨d - 4, by omega⟩
  show evS true (d + 4) 75 0 [(0, .ref 31)] [] h = _
  refine (es_st 5 (pc' := 9) (L' := [(1, .int (sF h 27 7)), (0, .ref 31)]) (S' := [.ref 31]) (h' := h) rfl).trans ?_
  refine (es_cV (b := true) (k' := 69) (pc' := 12) (as := [.ref 31]) (S' := []) (L' := [(1, .int (sF h 27 7)), (0, .ref 31)]) (h' := h) rfl rfl rfl rfl rfl).trans (kV_cg fun h1 => ?_)
  refine (es_st 2 (pc' := 16) (L' := [(1, .int (sF h 27 7)), (0, .ref 31)]) (S' := [.ref 27]) (h' := h1) rfl).trans ?_
  refine (es_cV (b := true) (k' := 30) (pc' := 19) (as := [.ref 27]) (S' := []) (L' := [(1, .int (sF h 27 7)), (0, .ref 31)]) (h' := h1) rfl rfl rfl rfl rfl).trans (kV_cg fun h2 => ?_)
  refine (es_st 1 (pc' := 20) (L' := [(1, .int (sF h 27 7)), (0, .ref 31)]) (S' := [.ref 31]) (h' := h2) rfl).trans ?_
  refine (es_cV (b := true) (k' := 61) (pc' := 23) (as := [.ref 31]) (S' := []) (L' := [(1, .int (sF h 27 7)), (0, .ref 31)]) (h' := h2) rfl rfl rfl rfl rfl).trans (kV_cg fun h3 => ?_)
  refine (es_st 3 (pc' := 29) (L' := [(1, .int (sF h 27 7)), (0, .ref 31)]) (S' := [.int (58 : Int32), .ref 27]) (h' := h3) rfl).trans ?_
  refine (es_cV (b := true) (k' := 44) (pc' := 32) (as := [.ref 27, .int (58 : Int32)]) (S' := []) (L' := [(1, .int (sF h 27 7)), (0, .ref 31)]) (h' := h3) rfl rfl rfl rfl rfl).trans (kV_cg fun h4 => ?_)
  refine (es_st 1 (pc' := 33) (L' := [(1, .int (sF h 27 7)), (0, .ref 31)]) (S' := [.ref 31]) (h' := h4) rfl).trans ?_
  refine (es_cV (b := true) (k' := 61) (pc' := 36) (as := [.ref 31]) (S' := []) (L' := [(1, .int (sF h 27 7)), (0, .ref 31)]) (h' := h4) rfl rfl rfl rfl rfl).trans (kV_cg fun h5 => ?_)
  refine (es_st 8 (pc' := 50) (L' := [(1, .int (sF h 27 7)), (0, .ref 31)]) (S' := [.int (sF (uF h5 31 4 ((sF h5 31 4) - (1 : Int32))) 31 2)]) (h' := (uF h5 31 4 ((sF h5 31 4) - (1 : Int32)))) rfl).trans ?_
  refine (zs_ne (t := 54) rfl rfl rfl).trans (if_cg ?_ ?_)
  · exact es_fin rfl rfl rfl
  · refine (es_st 2 (pc' := 58) (L' := [(1, .int (sF h 27 7)), (0, .ref 31)]) (S' := [.ref 36]) (h' := (uF h5 31 4 ((sF h5 31 4) - (1 : Int32)))) rfl).trans ?_
    refine (es_ob (o := rTake (uF h5 31 4 ((sF h5 31 4) - (1 : Int32))) 36) (pc' := 61) (L' := [(1, .int (sF h 27 7)), (0, .ref 31)]) (S' := fun z => [.int z.1]) (h' := fun z => z.2) rfl rfl rfl).trans (ob_cg fun q6 => ?_)
    refine (es_st 3 (pc' := 66) (L' := [(2, .int q6.1), (1, .int (sF h 27 7)), (0, .ref 31)]) (S' := [.ref 36]) (h' := q6.2) rfl).trans ?_
    refine (es_ob (o := rTake q6.2 36) (pc' := 69) (L' := [(2, .int q6.1), (1, .int (sF h 27 7)), (0, .ref 31)]) (S' := fun z => [.int z.1]) (h' := fun z => z.2) rfl rfl rfl).trans (ob_cg fun q7 => ?_)
    refine (es_st 3 (pc' := 74) (L' := [(3, .int q7.1), (2, .int q6.1), (1, .int (sF h 27 7)), (0, .ref 31)]) (S' := [.ref 36]) (h' := q7.2) rfl).trans ?_
    refine (es_ob (o := rTake q7.2 36) (pc' := 77) (L' := [(3, .int q7.1), (2, .int q6.1), (1, .int (sF h 27 7)), (0, .ref 31)]) (S' := fun z => [.int z.1]) (h' := fun z => z.2) rfl rfl rfl).trans (ob_cg fun q8 => ?_)
    refine (es_st 4 (pc' := 82) (L' := [(4, .int q8.1), (3, .int q7.1), (2, .int q6.1), (1, .int (sF h 27 7)), (0, .ref 31)]) (S' := [.int q6.1, .int q7.1, .ref 31]) (h' := q8.2) rfl).trans ?_
    refine (is_ne (t := 89) rfl rfl rfl).trans (if_cg ?_ ?_)
    · refine (es_st 2 (pc' := 90) (L' := [(4, .int q8.1), (3, .int q7.1), (2, .int q6.1), (1, .int (sF h 27 7)), (0, .ref 31)]) (S' := [.int (1 : Int32), .ref 31]) (h' := q8.2) rfl).trans ?_
      exact es_cut rfl rfl rfl
    · refine (es_st 1 (pc' := 90) (L' := [(4, .int q8.1), (3, .int q7.1), (2, .int q6.1), (1, .int (sF h 27 7)), (0, .ref 31)]) (S' := [.int (0 : Int32), .ref 31]) (h' := q8.2) rfl).trans ?_
      exact es_cut rfl rfl rfl
theorem sX3_choice_90 (d : Nat) (hd : 4 ≤ d) (h : SG) (x0_1 : Int32) (x0_3 : Int32) (x0_4 : Int32) (s0 : Int32) : evS true d 75 90 [(0, .ref 31), (1, .int x0_1), (3, .int x0_3), (4, .int x0_4)] [.int s0, .ref 31] h = kV (mS true (d - 1) 49 [.ref 31, .int s0, .int (30 : Int32), .int x0_1] h) (fun h1 => kV (mS true (d - 1) 70 [.ref 31, .int (mxI x0_3 x0_4)] h1) (fun h2 => ob (rAdd h2 36 x0_3) (fun q3 => kV (mS true (d - 1) 66 [.ref 31, .int (6 : Int32)] q3.2) (fun h4 => some (.inl none, h4))))) := by
  obtain ⟨d, rfl⟩ : ∃ e, d = e + 4 := ⟨d - 4, by omega⟩
  refine (es_st 2 (pc' := 93) (L' := [(0, .ref 31), (1, .int x0_1), (3, .int x0_3), (4, .int x0_4)]) (S' := [.int x0_1, .int (30 : Int32), .int s0, .ref 31]) (h' := h) rfl).trans ?_
  refine (es_cV (b := true) (k' := 49) (pc' := 96) (as := [.ref 31, .int s0, .int (30 : Int32), .int x0_1]) (S' := []) (L' := [(0, .ref 31), (1, .int x0_1), (3, .int x0_3), (4, .int x0_4)]) (h' := h) rfl rfl rfl rfl rfl).trans (kV_cg fun h1 => ?_)
  refine (es_st 4 (pc' := 103) (L' := [(0, .ref 31), (1, .int x0_1), (3, .int x0_3), (4, .int x0_4)]) (S' := [.int (mxI x0_3 x0_4), .ref 31]) (h' := h1) rfl).trans ?_
  refine (es_cV (b := true) (k' := 70) (pc' := 106) (as := [.ref 31, .int (mxI x0_3 x0_4)]) (S' := []) (L' := [(0, .ref 31), (1, .int x0_1), (3, .int x0_3), (4, .int x0_4)]) (h' := h1) rfl rfl rfl rfl rfl).trans (kV_cg fun h2 => ?_)
  refine (es_st 3 (pc' := 111) (L' := [(0, .ref 31), (1, .int x0_1), (3, .int x0_3), (4, .int x0_4)]) (S' := [.int x0_3, .ref 36]) (h' := h2) rfl).trans ?_
  refine (es_ob (o := rAdd h2 36 x0_3) (pc' := 114) (L' := [(0, .ref 31), (1, .int x0_1), (3, .int x0_3), (4, .int x0_4)]) (S' := fun z => [.int z.1]) (h' := fun z => z.2) rfl rfl rfl).trans (ob_cg fun q3 => ?_)
  refine (es_st 3 (pc' := 118) (L' := [(0, .ref 31), (1, .int x0_1), (3, .int x0_3), (4, .int x0_4)]) (S' := [.int (6 : Int32), .ref 31]) (h' := q3.2) rfl).trans ?_
  refine (es_cV (b := true) (k' := 66) (pc' := 121) (as := [.ref 31, .int (6 : Int32)]) (S' := []) (L' := [(0, .ref 31), (1, .int x0_1), (3, .int x0_3), (4, .int x0_4)]) (h' := q3.2) rfl rfl rfl rfl rfl).trans (kV_cg fun h4 => ?_)
  exact es_fin rfl rfl rfl
theorem sX3_item_2_0 (d : Nat) (hd : 4 ≤ d) (h : SG) (x0_1 : Int32) (x0_2 : Int32) (x0_3 : Int32) (x0_4 : Int32) : mS true d 76 [.ref 31, .int x0_1, .int x0_2, .int x0_3, .int x0_4] h = if (sF h 31 2) = 0 then some (.inl none, h) else ob (rAdd h 98 x0_1) (fun q1 => ob (rAdd q1.2 98 x0_2) (fun q2 => ob (rAdd q2.2 98 x0_3) (fun q3 => ob (rAdd q3.2 98 x0_4) (fun q4 => some (.inl none, q4.2))))) := by
  obtain ⟨d, rfl⟩ : ∃ e, d = e + 4 := ⟨d - 4, by omega⟩
  show evS true (d + 4) 76 0 [(0, .ref 31), (1, .int x0_1), (2, .int x0_2), (3, .int x0_3), (4, .int x0_4)] [] h = _
  refine (es_st 2 (pc' := 4) (L' := [(0, .ref 31), (1, .int x0_1), (2, .int x0_2), (3, .int x0_3), (4, .int x0_4)]) (S' := [.int (sF h 31 2)]) (h' := h) rfl).trans ?_
  refine (zs_ne (t := 8) rfl rfl rfl).trans (if_cg ?_ ?_)
  · exact es_fin rfl rfl rfl
  · refine (es_st 4 (pc' := 16) (L' := [(0, .ref 31), (1, .int x0_1), (2, .int x0_2), (3, .int x0_3), (4, .int x0_4)]) (S' := [.int x0_1, .ref 98]) (h' := h) rfl).trans ?_
    refine (es_ob (o := rAdd h 98 x0_1) (pc' := 19) (L' := [(0, .ref 31), (1, .int x0_1), (2, .int x0_2), (3, .int x0_3), (4, .int x0_4)]) (S' := fun z => [.int z.1]) (h' := fun z => z.2) rfl rfl rfl).trans (ob_cg fun q1 => ?_)
    refine (es_st 5 (pc' := 28) (L' := [(0, .ref 31), (1, .int x0_1), (2, .int x0_2), (3, .int x0_3), (4, .int x0_4)]) (S' := [.int x0_2, .ref 98]) (h' := q1.2) rfl).trans ?_
    refine (es_ob (o := rAdd q1.2 98 x0_2) (pc' := 31) (L' := [(0, .ref 31), (1, .int x0_1), (2, .int x0_2), (3, .int x0_3), (4, .int x0_4)]) (S' := fun z => [.int z.1]) (h' := fun z => z.2) rfl rfl rfl).trans (ob_cg fun q2 => ?_)
    refine (es_st 5 (pc' := 40) (L' := [(0, .ref 31), (1, .int x0_1), (2, .int x0_2), (3, .int x0_3), (4, .int x0_4)]) (S' := [.int x0_3, .ref 98]) (h' := q2.2) rfl).trans ?_
    refine (es_ob (o := rAdd q2.2 98 x0_3) (pc' := 43) (L' := [(0, .ref 31), (1, .int x0_1), (2, .int x0_2), (3, .int x0_3), (4, .int x0_4)]) (S' := fun z => [.int z.1]) (h' := fun z => z.2) rfl rfl rfl).trans (ob_cg fun q3 => ?_)
    refine (es_st 5 (pc' := 53) (L' := [(0, .ref 31), (1, .int x0_1), (2, .int x0_2), (3, .int x0_3), (4, .int x0_4)]) (S' := [.int x0_4, .ref 98]) (h' := q3.2) rfl).trans ?_
    refine (es_ob (o := rAdd q3.2 98 x0_4) (pc' := 56) (L' := [(0, .ref 31), (1, .int x0_1), (2, .int x0_2), (3, .int x0_3), (4, .int x0_4)]) (S' := fun z => [.int z.1]) (h' := fun z => z.2) rfl rfl rfl).trans (ob_cg fun q4 => ?_)
    refine (es_st 1 (pc' := 57) (L' := [(0, .ref 31), (1, .int x0_1), (2, .int x0_2), (3, .int x0_3), (4, .int x0_4)]) (S' := []) (h' := q4.2) rfl).trans ?_
    exact es_fin rfl rfl rfl
theorem sX3_every_0 (d : Nat) (hd : 1 ≤ d) (h : SG) : mS true d 77 [.ref 31] h = kV (mS true (d - 1) 30 [.ref 27] h) (fun h1 => kV (mS true (d - 1) 44 [.ref 27, .int (64 : Int32)] h1) (fun h2 => if (sF h2 27 6) = (40 : Int32) then evS true d 77 34 [(0, .ref 31)] [.int (1 : Int32), .ref 31] h2 else evS true d 77 34 [(0, .ref 31)] [.int (0 : Int32), .ref 31] h2)) := by
  obtain ⟨d, rfl⟩ : ∃ e, d = e + 1 := ⟨d - 1, by omega⟩
  show evS true (d + 1) 77 0 [(0, .ref 31)] [] h = _
  refine (es_st 2 (pc' := 4) (L' := [(0, .ref 31)]) (S' := [.ref 27]) (h' := h) rfl).trans ?_
  refine (es_cV (b := true) (k' := 30) (pc' := 7) (as := [.ref 27]) (S' := []) (L' := [(0, .ref 31)]) (h' := h) rfl rfl rfl rfl rfl).trans (kV_cg fun h1 => ?_)
  refine (es_st 3 (pc' := 13) (L' := [(0, .ref 31)]) (S' := [.int (64 : Int32), .ref 27]) (h' := h1) rfl).trans ?_
  refine (es_cV (b := true) (k' := 44) (pc' := 16) (as := [.ref 27, .int (64 : Int32)]) (S' := []) (L' := [(0, .ref 31)]) (h' := h1) rfl rfl rfl rfl rfl).trans (kV_cg fun h2 => ?_)
  refine (es_st 5 (pc' := 26) (L' := [(0, .ref 31)]) (S' := [.int (40 : Int32), .int (sF h2 27 6), .ref 31]) (h' := h2) rfl).trans ?_
  refine (is_ne (t := 33) rfl rfl rfl).trans (if_cg ?_ ?_)
  · refine (es_st 2 (pc' := 34) (L' := [(0, .ref 31)]) (S' := [.int (1 : Int32), .ref 31]) (h' := h2) rfl).trans ?_
    exact es_cut rfl rfl rfl
  · refine (es_st 1 (pc' := 34) (L' := [(0, .ref 31)]) (S' := [.int (0 : Int32), .ref 31]) (h' := h2) rfl).trans ?_
    exact es_cut rfl rfl rfl
theorem sX3_every_34 (d : Nat) (hd : 1 ≤ d) (h : SG) (s0 : Int32) : evS true d 77 34 [(0, .ref 31)] [.int s0, .ref 31] h = kV (mS true (d - 1) 49 [.ref 31, .int s0, .int (2 : Int32), .int (sF h 27 7)] h) (fun h1 => kV (mS true (d - 1) 69 [.ref 31] h1) (fun h2 => kV (mS true (d - 1) 30 [.ref 27] h2) (fun h3 => kV (mS true (d - 1) 44 [.ref 27, .int (308 : Int32)] h3) (fun h4 => kV (mS true (d - 1) 44 [.ref 27, .int (309 : Int32)] h4) (fun h5 => kV (mS true (d - 1) 44 [.ref 27, .int (41 : Int32)] (uF h5 31 4 ((sF h5 31 4) - (1 : Int32)))) (fun h6 => kV (mS true (d - 1) 78 [.ref 31] (uF h6 31 9 ((sF h6 31 9) + (1 : Int32)))) (fun h7 => kV (mS true (d - 1) 76 [.ref 31, .int (1 : Int32), .int (0 : Int32), .int (Int32.ofNat (sW (uF h6 31 9 ((sF h6 31 9) + (1 : Int32))) 104).length), .int (Int32.ofNat (sW h7 104).length)] h7) (fun h8 => some (.inl none, h8))))))))) := by
  obtain ⟨d, rfl⟩ : ∃ e, d = e + 1 := ⟨d - 1, by omega⟩
  refine (es_st 4 (pc' := 42) (L' := [(0, .ref 31)]) (S' := [.int (sF h 27 7), .int (2 : Int32), .int s0, .ref 31]) (h' := h) rfl).trans ?_
  refine (es_cV (b := true) (k' := 49) (pc' := 45) (as := [.ref 31, .int s0, .int (2 : Int32), .int (sF h 27 7)]) (S' := []) (L' := [(0, .ref 31)]) (h' := h) rfl rfl rfl rfl rfl).trans (kV_cg fun h1 => ?_)
  refine (es_st 1 (pc' := 46) (L' := [(0, .ref 31)]) (S' := [.ref 31]) (h' := h1) rfl).trans ?_
  refine (es_cV (b := true) (k' := 69) (pc' := 49) (as := [.ref 31]) (S' := []) (L' := [(0, .ref 31)]) (h' := h1) rfl rfl rfl rfl rfl).trans (kV_cg fun h2 => ?_)
  refine (es_st 2 (pc' := 53) (L' := [(0, .ref 31)]) (S' := [.ref 27]) (h' := h2) rfl).trans ?_
  refine (es_cV (b := true) (k' := 30) (pc' := 56) (as := [.ref 27]) (S' := []) (L' := [(0, .ref 31)]) (h' := h2) rfl rfl rfl rfl rfl).trans (kV_cg fun h3 => ?_)
  refine (es_st 3 (pc' := 63) (L' := [(0, .ref 31)]) (S' := [.int (308 : Int32), .ref 27]) (h' := h3) rfl).trans ?_
  refine (es_cV (b := true) (k' := 44) (pc' := 66) (as := [.ref 27, .int (308 : Int32)]) (S' := []) (L' := [(0, .ref 31)]) (h' := h3) rfl rfl rfl rfl rfl).trans (kV_cg fun h4 => ?_)
  refine (es_st 3 (pc' := 73) (L' := [(0, .ref 31)]) (S' := [.int (309 : Int32), .ref 27]) (h' := h4) rfl).trans ?_
  refine (es_cV (b := true) (k' := 44) (pc' := 76) (as := [.ref 27, .int (309 : Int32)]) (S' := []) (L' := [(0, .ref 31)]) (h' := h4) rfl rfl rfl rfl rfl).trans (kV_cg fun h5 => ?_)
  refine (es_st 9 (pc' := 92) (L' := [(0, .ref 31)]) (S' := [.int (41 : Int32), .ref 27]) (h' := (uF h5 31 4 ((sF h5 31 4) - (1 : Int32)))) rfl).trans ?_
  refine (es_cV (b := true) (k' := 44) (pc' := 95) (as := [.ref 27, .int (41 : Int32)]) (S' := []) (L' := [(0, .ref 31)]) (h' := (uF h5 31 4 ((sF h5 31 4) - (1 : Int32)))) rfl rfl rfl rfl rfl).trans (kV_cg fun h6 => ?_)
  refine (es_st 12 (pc' := 117) (L' := [(1, .int (Int32.ofNat (sW (uF h6 31 9 ((sF h6 31 9) + (1 : Int32))) 104).length)), (0, .ref 31)]) (S' := [.ref 31]) (h' := (uF h6 31 9 ((sF h6 31 9) + (1 : Int32)))) rfl).trans ?_
  refine (es_cV (b := true) (k' := 78) (pc' := 120) (as := [.ref 31]) (S' := []) (L' := [(1, .int (Int32.ofNat (sW (uF h6 31 9 ((sF h6 31 9) + (1 : Int32))) 104).length)), (0, .ref 31)]) (h' := (uF h6 31 9 ((sF h6 31 9) + (1 : Int32)))) rfl rfl rfl rfl rfl).trans (kV_cg fun h7 => ?_)
  refine (es_st 8 (pc' := 134) (L' := [(1, .int (Int32.ofNat (sW (uF h6 31 9 ((sF h6 31 9) + (1 : Int32))) 104).length)), (0, .ref 31)]) (S' := [.int (Int32.ofNat (sW h7 104).length), .int (Int32.ofNat (sW (uF h6 31 9 ((sF h6 31 9) + (1 : Int32))) 104).length), .int (0 : Int32), .int (1 : Int32), .ref 31]) (h' := h7) rfl).trans ?_
  refine (es_cV (b := true) (k' := 76) (pc' := 137) (as := [.ref 31, .int (1 : Int32), .int (0 : Int32), .int (Int32.ofNat (sW (uF h6 31 9 ((sF h6 31 9) + (1 : Int32))) 104).length), .int (Int32.ofNat (sW h7 104).length)]) (S' := []) (L' := [(1, .int (Int32.ofNat (sW (uF h6 31 9 ((sF h6 31 9) + (1 : Int32))) 104).length)), (0, .ref 31)]) (h' := h7) rfl rfl rfl rfl rfl).trans (kV_cg fun h8 => ?_)
  exact es_fin rfl rfl rfl
theorem sX3_statement_0 (d : Nat) (hd : 4 ≤ d) (h : SG) : mS true d 78 [.ref 31] h = if (sF h 27 6) = (310 : Int32) then kV (mS true (d - 1) 69 [.ref 31] h) (fun h1 => kV (mS true (d - 1) 30 [.ref 27] h1) (fun h2 => evS true d 78 51 [(0, .ref 31)] [] h2)) else if (sF h 27 6) = (311 : Int32) then kV (mS true (d - 1) 83 [.ref 31] h) (fun h3 => some (.inl none, h3)) else if (sF h 27 6) = (312 : Int32) then kV (mS true (d - 1) 69 [.ref 31] h) (fun h4 => kV (mS true (d - 1) 30 [.ref 27] h4) (fun h5 => if (sF h5 27 6) = (40 : Int32) then evS true d 78 120 [(0, .ref 31)] [.int (1 : Int32), .ref 31] h5 else evS true d 78 120 [(0, .ref 31)] [.int (0 : Int32), .ref 31] h5)) else if (sF h 27 6) = (313 : Int32) then kV (mS true (d - 1) 83 [.ref 31] h) (fun h6 => some (.inl none, h6)) else if (sF h 27 6) = (314 : Int32) then kV (mS true (d - 1) 81 [.ref 31] h) (fun h7 => some (.inl none, h7)) else kV (mS true (d - 1) 83 [.ref 31] h) (fun h8 => some (.inl none, h8)) := by
  obtain ⟨d, rfl⟩ : ∃ e, d = e + 4 := ⟨d - 4, by omega⟩
  show evS true (d + 4) 78 0 [(0, .ref 31)] [] h = _
  refine (es_st 3 (pc' := 7) (L' := [(0, .ref 31)]) (S' := [.int (sF h 27 6)]) (h' := h) rfl).trans ?_
  refine (es_sw (a := (sF h 27 6)) (cs := [((310 : Int32), 40), ((311 : Int32), 234), ((312 : Int32), 91), ((313 : Int32), 234), ((314 : Int32), 227)]) (df := 234) (L' := [(0, .ref 31)]) (S' := []) rfl rfl rfl).trans ?_
  refine ss_cons.trans (if_cg ?_ ?_)
  · refine (es_st 1 (pc' := 41) (L' := [(0, .ref 31)]) (S' := [.ref 31]) (h' := h) rfl).trans ?_
    refine (es_cV (b := true) (k' := 69) (pc' := 44) (as := [.ref 31]) (S' := []) (L' := [(0, .ref 31)]) (h' := h) rfl rfl rfl rfl rfl).trans (kV_cg fun h1 => ?_)
    refine (es_st 2 (pc' := 48) (L' := [(0, .ref 31)]) (S' := [.ref 27]) (h' := h1) rfl).trans ?_
    refine (es_cV (b := true) (k' := 30) (pc' := 51) (as := [.ref 27]) (S' := []) (L' := [(0, .ref 31)]) (h' := h1) rfl rfl rfl rfl rfl).trans (kV_cg fun h2 => ?_)
    exact es_cut rfl rfl rfl
  · refine ss_cons.trans (if_cg ?_ ?_)
    · refine (es_st 1 (pc' := 235) (L' := [(0, .ref 31)]) (S' := [.ref 31]) (h' := h) rfl).trans ?_
      refine (es_cV (b := true) (k' := 83) (pc' := 238) (as := [.ref 31]) (S' := []) (L' := [(0, .ref 31)]) (h' := h) rfl rfl rfl rfl rfl).trans (kV_cg fun h3 => ?_)
      exact es_fin rfl rfl rfl
    · refine ss_cons.trans (if_cg ?_ ?_)
      · refine (es_st 1 (pc' := 92) (L' := [(0, .ref 31)]) (S' := [.ref 31]) (h' := h) rfl).trans ?_
        refine (es_cV (b := true) (k' := 69) (pc' := 95) (as := [.ref 31]) (S' := []) (L' := [(0, .ref 31)]) (h' := h) rfl rfl rfl rfl rfl).trans (kV_cg fun h4 => ?_)
        refine (es_st 2 (pc' := 99) (L' := [(0, .ref 31)]) (S' := [.ref 27]) (h' := h4) rfl).trans ?_
        refine (es_cV (b := true) (k' := 30) (pc' := 102) (as := [.ref 27]) (S' := []) (L' := [(0, .ref 31)]) (h' := h4) rfl rfl rfl rfl rfl).trans (kV_cg fun h5 => ?_)
        refine (es_st 5 (pc' := 112) (L' := [(0, .ref 31)]) (S' := [.int (40 : Int32), .int (sF h5 27 6), .ref 31]) (h' := h5) rfl).trans ?_
        refine (is_ne (t := 119) rfl rfl rfl).trans (if_cg ?_ ?_)
        · refine (es_st 2 (pc' := 120) (L' := [(0, .ref 31)]) (S' := [.int (1 : Int32), .ref 31]) (h' := h5) rfl).trans ?_
          exact es_cut rfl rfl rfl
        · refine (es_st 1 (pc' := 120) (L' := [(0, .ref 31)]) (S' := [.int (0 : Int32), .ref 31]) (h' := h5) rfl).trans ?_
          exact es_cut rfl rfl rfl
      · refine ss_cons.trans (if_cg ?_ ?_)
        · refine (es_st 1 (pc' := 235) (L' := [(0, .ref 31)]) (S' := [.ref 31]) (h' := h) rfl).trans ?_
          refine (es_cV (b := true) (k' := 83) (pc' := 238) (as := [.ref 31]) (S' := []) (L' := [(0, .ref 31)]) (h' := h) rfl rfl rfl rfl rfl).trans (kV_cg fun h6 => ?_)
          exact es_fin rfl rfl rfl
        · refine ss_cons.trans (if_cg ?_ ?_)
          · refine (es_st 1 (pc' := 228) (L' := [(0, .ref 31)]) (S' := [.ref 31]) (h' := h) rfl).trans ?_
            refine (es_cV (b := true) (k' := 81) (pc' := 231) (as := [.ref 31]) (S' := []) (L' := [(0, .ref 31)]) (h' := h) rfl rfl rfl rfl rfl).trans (kV_cg fun h7 => ?_)
            refine (es_st 1 (pc' := 238) (L' := [(0, .ref 31)]) (S' := []) (h' := h7) rfl).trans ?_
            exact es_fin rfl rfl rfl
          · refine (es_st 1 (pc' := 235) (L' := [(0, .ref 31)]) (S' := [.ref 31]) (h' := h) rfl).trans ?_
            refine (es_cV (b := true) (k' := 83) (pc' := 238) (as := [.ref 31]) (S' := []) (L' := [(0, .ref 31)]) (h' := h) rfl rfl rfl rfl rfl).trans (kV_cg fun h8 => ?_)
            exact es_fin rfl rfl rfl
theorem sX3_statement_51 (d : Nat) (hd : 4 ≤ d) (h : SG) : evS true d 78 51 [(0, .ref 31)] [] h = if (sF h 27 6) = (311 : Int32) then kV (mS true (d - 1) 30 [.ref 27] (uF h 31 4 ((sF h 31 4) - (1 : Int32)))) (fun h1 => some (.inl none, h1)) else kV (mS true (d - 1) 78 [.ref 31] h) (fun h2 => evS true d 78 51 [(0, .ref 31)] [] h2) := by
  obtain ⟨d, rfl⟩ : ∃ e, d = e + 4 := ⟨d - 4, by omega⟩
  refine (es_st 4 (pc' := 61) (L' := [(0, .ref 31)]) (S' := [.int (311 : Int32), .int (sF h 27 6)]) (h' := h) rfl).trans ?_
  refine (is_eq (t := 71) rfl rfl rfl).trans (if_cg ?_ ?_)
  · refine (es_st 8 (pc' := 85) (L' := [(0, .ref 31)]) (S' := [.ref 27]) (h' := (uF h 31 4 ((sF h 31 4) - (1 : Int32)))) rfl).trans ?_
    refine (es_cV (b := true) (k' := 30) (pc' := 88) (as := [.ref 27]) (S' := []) (L' := [(0, .ref 31)]) (h' := (uF h 31 4 ((sF h 31 4) - (1 : Int32)))) rfl rfl rfl rfl rfl).trans (kV_cg fun h1 => ?_)
    refine (es_st 1 (pc' := 238) (L' := [(0, .ref 31)]) (S' := []) (h' := h1) rfl).trans ?_
    exact es_fin rfl rfl rfl
  · refine (es_st 1 (pc' := 65) (L' := [(0, .ref 31)]) (S' := [.ref 31]) (h' := h) rfl).trans ?_
    refine (es_cV (b := true) (k' := 78) (pc' := 68) (as := [.ref 31]) (S' := []) (L' := [(0, .ref 31)]) (h' := h) rfl rfl rfl rfl rfl).trans (kV_cg fun h2 => ?_)
    refine (es_st 1 (pc' := 51) (L' := [(0, .ref 31)]) (S' := []) (h' := h2) rfl).trans ?_
    exact es_cut rfl rfl rfl
theorem sX3_statement_120 (d : Nat) (hd : 4 ≤ d) (h : SG) (s0 : Int32) : evS true d 78 120 [(0, .ref 31)] [.int s0, .ref 31] h = kV (mS true (d - 1) 49 [.ref 31, .int s0, .int (2 : Int32), .int (sF h 27 7)] h) (fun h1 => kV (mS true (d - 1) 71 [.ref 31] h1) (fun h2 => if (sF h2 31 2) = 0 then evS true d 78 164 [(0, .ref 31), (1, .int (Int32.ofNat (sW h1 102).length))] [] h2 else ob (rTake h2 36) (fun q3 => kV (mS true (d - 1) 70 [.ref 31, .int q3.1] q3.2) (fun h4 => evS true d 78 164 [(0, .ref 31), (1, .int (Int32.ofNat (sW h1 102).length))] [] h4)))) := by
  obtain ⟨d, rfl⟩ : ∃ e, d = e + 4 := ⟨d - 4, by omega⟩
  refine (es_st 4 (pc' := 128) (L' := [(0, .ref 31)]) (S' := [.int (sF h 27 7), .int (2 : Int32), .int s0, .ref 31]) (h' := h) rfl).trans ?_
  refine (es_cV (b := true) (k' := 49) (pc' := 131) (as := [.ref 31, .int s0, .int (2 : Int32), .int (sF h 27 7)]) (S' := []) (L' := [(0, .ref 31)]) (h' := h) rfl rfl rfl rfl rfl).trans (kV_cg fun h1 => ?_)
  refine (es_st 6 (pc' := 143) (L' := [(1, .int (Int32.ofNat (sW h1 102).length)), (0, .ref 31)]) (S' := [.ref 31]) (h' := h1) rfl).trans ?_
  refine (es_cV (b := true) (k' := 71) (pc' := 146) (as := [.ref 31]) (S' := []) (L' := [(1, .int (Int32.ofNat (sW h1 102).length)), (0, .ref 31)]) (h' := h1) rfl rfl rfl rfl rfl).trans (kV_cg fun h2 => ?_)
  refine (es_st 2 (pc' := 150) (L' := [(1, .int (Int32.ofNat (sW h1 102).length)), (0, .ref 31)]) (S' := [.int (sF h2 31 2)]) (h' := h2) rfl).trans ?_
  refine (zs_eq (t := 164) rfl rfl rfl).trans (if_cg ?_ ?_)
  · exact es_cut rfl rfl rfl
  · refine (es_st 3 (pc' := 158) (L' := [(1, .int (Int32.ofNat (sW h1 102).length)), (0, .ref 31)]) (S' := [.ref 36, .ref 31]) (h' := h2) rfl).trans ?_
    refine (es_ob (o := rTake h2 36) (pc' := 161) (L' := [(1, .int (Int32.ofNat (sW h1 102).length)), (0, .ref 31)]) (S' := fun z => [.int z.1, .ref 31]) (h' := fun z => z.2) rfl rfl rfl).trans (ob_cg fun q3 => ?_)
    refine (es_cV (b := true) (k' := 70) (pc' := 164) (as := [.ref 31, .int q3.1]) (S' := []) (L' := [(1, .int (Int32.ofNat (sW h1 102).length)), (0, .ref 31)]) (h' := q3.2) rfl rfl rfl rfl rfl).trans (kV_cg fun h4 => ?_)
    exact es_cut rfl rfl rfl
theorem sX3_statement_164 (d : Nat) (hd : 4 ≤ d) (h : SG) (x0_1 : Int32) : evS true d 78 164 [(0, .ref 31), (1, .int x0_1)] [] h = kV (mS true (d - 1) 79 [.ref 31, .int (21 : Int32), .int x0_1, .int (Int32.ofNat (sW h 102).length)] h) (fun h1 => kV (mS true (d - 1) 78 [.ref 31] h1) (fun h2 => kI (mS true (d - 1) 45 [.ref 27, .int (313 : Int32)] h2) (fun x4 h3 => if x4 = 0 then kV (mS true (d - 1) 80 [.ref 31, .int (23 : Int32)] h3) (fun h5 => some (.inl none, (uF h5 31 4 ((sF h5 31 4) - (1 : Int32))))) else kV (mS true (d - 1) 80 [.ref 31, .int (22 : Int32)] h3) (fun h6 => kV (mS true (d - 1) 78 [.ref 31] h6) (fun h7 => kV (mS true (d - 1) 80 [.ref 31, .int (23 : Int32)] h7) (fun h8 => some (.inl none, (uF h8 31 4 ((sF h8 31 4) - (1 : Int32)))))))))) := by
  obtain ⟨d, rfl⟩ : ∃ e, d = e + 4 := ⟨d - 4, by omega⟩
  refine (es_st 7 (pc' := 178) (L' := [(0, .ref 31), (1, .int x0_1)]) (S' := [.int (Int32.ofNat (sW h 102).length), .int x0_1, .int (21 : Int32), .ref 31]) (h' := h) rfl).trans ?_
  refine (es_cV (b := true) (k' := 79) (pc' := 181) (as := [.ref 31, .int (21 : Int32), .int x0_1, .int (Int32.ofNat (sW h 102).length)]) (S' := []) (L' := [(0, .ref 31), (1, .int x0_1)]) (h' := h) rfl rfl rfl rfl rfl).trans (kV_cg fun h1 => ?_)
  refine (es_st 1 (pc' := 182) (L' := [(0, .ref 31), (1, .int x0_1)]) (S' := [.ref 31]) (h' := h1) rfl).trans ?_
  refine (es_cV (b := true) (k' := 78) (pc' := 185) (as := [.ref 31]) (S' := []) (L' := [(0, .ref 31), (1, .int x0_1)]) (h' := h1) rfl rfl rfl rfl rfl).trans (kV_cg fun h2 => ?_)
  refine (es_st 3 (pc' := 192) (L' := [(0, .ref 31), (1, .int x0_1)]) (S' := [.int (313 : Int32), .ref 27]) (h' := h2) rfl).trans ?_
  refine (es_cI (b := true) (k' := 45) (pc' := 195) (as := [.ref 27, .int (313 : Int32)]) (S' := []) (L' := [(0, .ref 31), (1, .int x0_1)]) (h' := h2) rfl rfl rfl rfl rfl).trans (kI_cg fun x4 h3 => ?_)
  refine (zs_eq (t := 208) rfl rfl rfl).trans (if_cg ?_ ?_)
  · refine (es_st 2 (pc' := 211) (L' := [(0, .ref 31), (1, .int x0_1)]) (S' := [.int (23 : Int32), .ref 31]) (h' := h3) rfl).trans ?_
    refine (es_cV (b := true) (k' := 80) (pc' := 214) (as := [.ref 31, .int (23 : Int32)]) (S' := []) (L' := [(0, .ref 31), (1, .int x0_1)]) (h' := h3) rfl rfl rfl rfl rfl).trans (kV_cg fun h5 => ?_)
    refine (es_st 7 (pc' := 238) (L' := [(0, .ref 31), (1, .int x0_1)]) (S' := []) (h' := (uF h5 31 4 ((sF h5 31 4) - (1 : Int32)))) rfl).trans ?_
    exact es_fin rfl rfl rfl
  · refine (es_st 2 (pc' := 201) (L' := [(0, .ref 31), (1, .int x0_1)]) (S' := [.int (22 : Int32), .ref 31]) (h' := h3) rfl).trans ?_
    refine (es_cV (b := true) (k' := 80) (pc' := 204) (as := [.ref 31, .int (22 : Int32)]) (S' := []) (L' := [(0, .ref 31), (1, .int x0_1)]) (h' := h3) rfl rfl rfl rfl rfl).trans (kV_cg fun h6 => ?_)
    refine (es_st 1 (pc' := 205) (L' := [(0, .ref 31), (1, .int x0_1)]) (S' := [.ref 31]) (h' := h6) rfl).trans ?_
    refine (es_cV (b := true) (k' := 78) (pc' := 208) (as := [.ref 31]) (S' := []) (L' := [(0, .ref 31), (1, .int x0_1)]) (h' := h6) rfl rfl rfl rfl rfl).trans (kV_cg fun h7 => ?_)
    refine (es_st 2 (pc' := 211) (L' := [(0, .ref 31), (1, .int x0_1)]) (S' := [.int (23 : Int32), .ref 31]) (h' := h7) rfl).trans ?_
    refine (es_cV (b := true) (k' := 80) (pc' := 214) (as := [.ref 31, .int (23 : Int32)]) (S' := []) (L' := [(0, .ref 31), (1, .int x0_1)]) (h' := h7) rfl rfl rfl rfl rfl).trans (kV_cg fun h8 => ?_)
    refine (es_st 7 (pc' := 238) (L' := [(0, .ref 31), (1, .int x0_1)]) (S' := []) (h' := (uF h8 31 4 ((sF h8 31 4) - (1 : Int32)))) rfl).trans ?_
    exact es_fin rfl rfl rfl
theorem sX3_act_0 (d : Nat) (hd : 1 ≤ d) (h : SG) (x0_1 : Int32) (x0_2 : Int32) (x0_3 : Int32) : mS true d 79 [.ref 31, .int x0_1, .int x0_2, .int x0_3] h = kV (mS true (d - 1) 80 [.ref 31, .int x0_1] h) (fun h1 => kV (mS true (d - 1) 80 [.ref 31, .int x0_2] h1) (fun h2 => kV (mS true (d - 1) 80 [.ref 31, .int x0_3] h2) (fun h3 => some (.inl none, h3)))) := by
  obtain ⟨d, rfl⟩ : ∃ e, d = e + 1 := ⟨d - 1, by omega⟩
  show evS true (d + 1) 79 0 [(0, .ref 31), (1, .int x0_1), (2, .int x0_2), (3, .int x0_3)] [] h = _
  refine (es_st 2 (pc' := 2) (L' := [(0, .ref 31), (1, .int x0_1), (2, .int x0_2), (3, .int x0_3)]) (S' := [.int x0_1, .ref 31]) (h' := h) rfl).trans ?_
  refine (es_cV (b := true) (k' := 80) (pc' := 5) (as := [.ref 31, .int x0_1]) (S' := []) (L' := [(0, .ref 31), (1, .int x0_1), (2, .int x0_2), (3, .int x0_3)]) (h' := h) rfl rfl rfl rfl rfl).trans (kV_cg fun h1 => ?_)
  refine (es_st 2 (pc' := 7) (L' := [(0, .ref 31), (1, .int x0_1), (2, .int x0_2), (3, .int x0_3)]) (S' := [.int x0_2, .ref 31]) (h' := h1) rfl).trans ?_
  refine (es_cV (b := true) (k' := 80) (pc' := 10) (as := [.ref 31, .int x0_2]) (S' := []) (L' := [(0, .ref 31), (1, .int x0_1), (2, .int x0_2), (3, .int x0_3)]) (h' := h1) rfl rfl rfl rfl rfl).trans (kV_cg fun h2 => ?_)
  refine (es_st 2 (pc' := 12) (L' := [(0, .ref 31), (1, .int x0_1), (2, .int x0_2), (3, .int x0_3)]) (S' := [.int x0_3, .ref 31]) (h' := h2) rfl).trans ?_
  refine (es_cV (b := true) (k' := 80) (pc' := 15) (as := [.ref 31, .int x0_3]) (S' := []) (L' := [(0, .ref 31), (1, .int x0_1), (2, .int x0_2), (3, .int x0_3)]) (h' := h2) rfl rfl rfl rfl rfl).trans (kV_cg fun h3 => ?_)
  exact es_fin rfl rfl rfl
theorem sX3_act_2_0 (d : Nat) (hd : 4 ≤ d) (h : SG) (x0_1 : Int32) : mS true d 80 [.ref 31, .int x0_1] h = if (sF h 31 2) = 0 then some (.inl none, h) else ob (rAdd h 104 x0_1) (fun q1 => some (.inl none, q1.2)) := by
  obtain ⟨d, rfl⟩ : ∃ e, d = e + 4 := ⟨d - 4, by omega⟩
  show evS true (d + 4) 80 0 [(0, .ref 31), (1, .int x0_1)] [] h = _
  refine (es_st 2 (pc' := 4) (L' := [(0, .ref 31), (1, .int x0_1)]) (S' := [.int (sF h 31 2)]) (h' := h) rfl).trans ?_
  refine (zs_eq (t := 19) rfl rfl rfl).trans (if_cg ?_ ?_)
  · exact es_fin rfl rfl rfl
  · refine (es_st 4 (pc' := 15) (L' := [(0, .ref 31), (1, .int x0_1)]) (S' := [.int x0_1, .ref 104]) (h' := h) rfl).trans ?_
    refine (es_ob (o := rAdd h 104 x0_1) (pc' := 18) (L' := [(0, .ref 31), (1, .int x0_1)]) (S' := fun z => [.int z.1]) (h' := fun z => z.2) rfl rfl rfl).trans (ob_cg fun q1 => ?_)
    refine (es_st 1 (pc' := 19) (L' := [(0, .ref 31), (1, .int x0_1)]) (S' := []) (h' := q1.2) rfl).trans ?_
    exact es_fin rfl rfl rfl
theorem sX3_among_0 (d : Nat) (hd : 4 ≤ d) (h : SG) : mS true d 81 [.ref 31] h = kV (mS true (d - 1) 69 [.ref 31] h) (fun h1 => kV (mS true (d - 1) 30 [.ref 27] h1) (fun h2 => if (sF h2 27 6) = (40 : Int32) then evS true d 81 29 [(0, .ref 31)] [.int (1 : Int32), .ref 31] h2 else evS true d 81 29 [(0, .ref 31)] [.int (0 : Int32), .ref 31] h2)) := by
  obtain ⟨d, rfl⟩ : ∃ e, d = e + 4 := ⟨d - 4, by omega⟩
  show evS true (d + 4) 81 0 [(0, .ref 31)] [] h = _
  refine (es_st 1 (pc' := 1) (L' := [(0, .ref 31)]) (S' := [.ref 31]) (h' := h) rfl).trans ?_
  refine (es_cV (b := true) (k' := 69) (pc' := 4) (as := [.ref 31]) (S' := []) (L' := [(0, .ref 31)]) (h' := h) rfl rfl rfl rfl rfl).trans (kV_cg fun h1 => ?_)
  refine (es_st 2 (pc' := 8) (L' := [(0, .ref 31)]) (S' := [.ref 27]) (h' := h1) rfl).trans ?_
  refine (es_cV (b := true) (k' := 30) (pc' := 11) (as := [.ref 27]) (S' := []) (L' := [(0, .ref 31)]) (h' := h1) rfl rfl rfl rfl rfl).trans (kV_cg fun h2 => ?_)
  refine (es_st 5 (pc' := 21) (L' := [(0, .ref 31)]) (S' := [.int (40 : Int32), .int (sF h2 27 6), .ref 31]) (h' := h2) rfl).trans ?_
  refine (is_ne (t := 28) rfl rfl rfl).trans (if_cg ?_ ?_)
  · refine (es_st 2 (pc' := 29) (L' := [(0, .ref 31)]) (S' := [.int (1 : Int32), .ref 31]) (h' := h2) rfl).trans ?_
    exact es_cut rfl rfl rfl
  · refine (es_st 1 (pc' := 29) (L' := [(0, .ref 31)]) (S' := [.int (0 : Int32), .ref 31]) (h' := h2) rfl).trans ?_
    exact es_cut rfl rfl rfl
theorem sX3_among_29 (d : Nat) (hd : 4 ≤ d) (h : SG) (s0 : Int32) : evS true d 81 29 [(0, .ref 31)] [.int s0, .ref 31] h = kV (mS true (d - 1) 49 [.ref 31, .int s0, .int (2 : Int32), .int (sF h 27 7)] h) (fun h1 => kV (mS true (d - 1) 71 [.ref 31] h1) (fun h2 => if (sF h2 31 2) = 0 then kV (mS true (d - 1) 79 [.ref 31, .int (24 : Int32), .int (Int32.ofNat (sW h1 102).length), .int (Int32.ofNat (sW h2 102).length)] h2) (fun h3 => evS true d 81 91 [(0, .ref 31), (2, .int (0 : Int32))] [] h3) else ob (rTake h2 36) (fun q4 => kV (mS true (d - 1) 79 [.ref 31, .int (24 : Int32), .int (Int32.ofNat (sW h1 102).length), .int (Int32.ofNat (sW q4.2 102).length)] q4.2) (fun h5 => evS true d 81 91 [(0, .ref 31), (2, .int q4.1)] [] h5)))) := by
  obtain ⟨d, rfl⟩ : ∃ e, d = e + 4 := ⟨d - 4, by omega⟩
  refine (es_st 4 (pc' := 37) (L' := [(0, .ref 31)]) (S' := [.int (sF h 27 7), .int (2 : Int32), .int s0, .ref 31]) (h' := h) rfl).trans ?_
  refine (es_cV (b := true) (k' := 49) (pc' := 40) (as := [.ref 31, .int s0, .int (2 : Int32), .int (sF h 27 7)]) (S' := []) (L' := [(0, .ref 31)]) (h' := h) rfl rfl rfl rfl rfl).trans (kV_cg fun h1 => ?_)
  refine (es_st 6 (pc' := 52) (L' := [(1, .int (Int32.ofNat (sW h1 102).length)), (0, .ref 31)]) (S' := [.ref 31]) (h' := h1) rfl).trans ?_
  refine (es_cV (b := true) (k' := 71) (pc' := 55) (as := [.ref 31]) (S' := []) (L' := [(1, .int (Int32.ofNat (sW h1 102).length)), (0, .ref 31)]) (h' := h1) rfl rfl rfl rfl rfl).trans (kV_cg fun h2 => ?_)
  refine (es_st 2 (pc' := 59) (L' := [(1, .int (Int32.ofNat (sW h1 102).length)), (0, .ref 31)]) (S' := [.int (sF h2 31 2)]) (h' := h2) rfl).trans ?_
  refine (zs_eq (t := 72) rfl rfl rfl).trans (if_cg ?_ ?_)
  · refine (es_st 9 (pc' := 88) (L' := [(2, .int (0 : Int32)), (1, .int (Int32.ofNat (sW h1 102).length)), (0, .ref 31)]) (S' := [.int (Int32.ofNat (sW h2 102).length), .int (Int32.ofNat (sW h1 102).length), .int (24 : Int32), .ref 31]) (h' := h2) rfl).trans ?_
    refine (es_cV (b := true) (k' := 79) (pc' := 91) (as := [.ref 31, .int (24 : Int32), .int (Int32.ofNat (sW h1 102).length), .int (Int32.ofNat (sW h2 102).length)]) (S' := []) (L' := [(2, .int (0 : Int32)), (1, .int (Int32.ofNat (sW h1 102).length)), (0, .ref 31)]) (h' := h2) rfl rfl rfl rfl rfl).trans (kV_cg fun h3 => ?_)
    exact es_cut rfl rfl rfl
  · refine (es_st 2 (pc' := 66) (L' := [(1, .int (Int32.ofNat (sW h1 102).length)), (0, .ref 31)]) (S' := [.ref 36]) (h' := h2) rfl).trans ?_
    refine (es_ob (o := rTake h2 36) (pc' := 69) (L' := [(1, .int (Int32.ofNat (sW h1 102).length)), (0, .ref 31)]) (S' := fun z => [.int z.1]) (h' := fun z => z.2) rfl rfl rfl).trans (ob_cg fun q4 => ?_)
    refine (es_st 9 (pc' := 88) (L' := [(2, .int q4.1), (1, .int (Int32.ofNat (sW h1 102).length)), (0, .ref 31)]) (S' := [.int (Int32.ofNat (sW q4.2 102).length), .int (Int32.ofNat (sW h1 102).length), .int (24 : Int32), .ref 31]) (h' := q4.2) rfl).trans ?_
    refine (es_cV (b := true) (k' := 79) (pc' := 91) (as := [.ref 31, .int (24 : Int32), .int (Int32.ofNat (sW h1 102).length), .int (Int32.ofNat (sW q4.2 102).length)]) (S' := []) (L' := [(2, .int q4.1), (1, .int (Int32.ofNat (sW h1 102).length)), (0, .ref 31)]) (h' := q4.2) rfl rfl rfl rfl rfl).trans (kV_cg fun h5 => ?_)
    exact es_cut rfl rfl rfl
theorem sX3_among_91 (d : Nat) (hd : 4 ≤ d) (h : SG) (x0_2 : Int32) : evS true d 81 91 [(0, .ref 31), (2, .int x0_2)] [] h = if (sF h 27 6) = (259 : Int32) then kV (mS true (d - 1) 80 [.ref 31, .int (25 : Int32)] h) (fun h7 => kV (mS true (d - 1) 80 [.ref 31, .int (0 : Int32)] h7) (fun h8 => kV (mS true (d - 1) 82 [.ref 31, .int x0_2] h8) (fun h9 => evS true d 81 137 [(0, .ref 31), (2, .int x0_2), (3, .int (Int32.ofNat (sW h7 104).length)), (4, .int ((0 : Int32) + (1 : Int32)))] [] h9))) else kI (mS true (d - 1) 45 [.ref 27, .int (316 : Int32)] h) (fun x2 h1 => if x2 = 0 then if (sF h1 27 6) = (315 : Int32) then evS true d 81 259 [(0, .ref 31)] [.int (1 : Int32), .ref 31] h1 else evS true d 81 259 [(0, .ref 31)] [.int (0 : Int32), .ref 31] h1 else kV (mS true (d - 1) 44 [.ref 27, .int (58 : Int32)] h1) (fun h3 => kV (mS true (d - 1) 80 [.ref 31, .int (27 : Int32)] h3) (fun h4 => kV (mS true (d - 1) 78 [.ref 31] h4) (fun h5 => kV (mS true (d - 1) 80 [.ref 31, .int (26 : Int32)] h5) (fun h6 => if (sF h6 27 6) = (315 : Int32) then evS true d 81 259 [(0, .ref 31)] [.int (1 : Int32), .ref 31] h6 else evS true d 81 259 [(0, .ref 31)] [.int (0 : Int32), .ref 31] h6))))) := by
  obtain ⟨d, rfl⟩ : ∃ e, d = e + 4 := ⟨d - 4, by omega⟩
  refine (es_st 4 (pc' := 101) (L' := [(0, .ref 31), (2, .int x0_2)]) (S' := [.int (259 : Int32), .int (sF h 27 6)]) (h' := h) rfl).trans ?_
  refine (is_ne (t := 202) rfl rfl rfl).trans (if_cg ?_ ?_)
  · refine (es_st 2 (pc' := 107) (L' := [(0, .ref 31), (2, .int x0_2)]) (S' := [.int (25 : Int32), .ref 31]) (h' := h) rfl).trans ?_
    refine (es_cV (b := true) (k' := 80) (pc' := 110) (as := [.ref 31, .int (25 : Int32)]) (S' := []) (L' := [(0, .ref 31), (2, .int x0_2)]) (h' := h) rfl rfl rfl rfl rfl).trans (kV_cg fun h7 => ?_)
    refine (es_st 7 (pc' := 123) (L' := [(3, .int (Int32.ofNat (sW h7 104).length)), (0, .ref 31), (2, .int x0_2)]) (S' := [.int (0 : Int32), .ref 31]) (h' := h7) rfl).trans ?_
    refine (es_cV (b := true) (k' := 80) (pc' := 126) (as := [.ref 31, .int (0 : Int32)]) (S' := []) (L' := [(3, .int (Int32.ofNat (sW h7 104).length)), (0, .ref 31), (2, .int x0_2)]) (h' := h7) rfl rfl rfl rfl rfl).trans (kV_cg fun h8 => ?_)
    refine (es_st 4 (pc' := 131) (L' := [(4, .int (0 : Int32)), (3, .int (Int32.ofNat (sW h7 104).length)), (0, .ref 31), (2, .int x0_2)]) (S' := [.int x0_2, .ref 31]) (h' := h8) rfl).trans ?_
    refine (es_cV (b := true) (k' := 82) (pc' := 134) (as := [.ref 31, .int x0_2]) (S' := []) (L' := [(4, .int (0 : Int32)), (3, .int (Int32.ofNat (sW h7 104).length)), (0, .ref 31), (2, .int x0_2)]) (h' := h8) rfl rfl rfl rfl rfl).trans (kV_cg fun h9 => ?_)
    refine (es_st 1 (pc' := 137) (L' := [(4, .int ((0 : Int32) + (1 : Int32))), (3, .int (Int32.ofNat (sW h7 104).length)), (0, .ref 31), (2, .int x0_2)]) (S' := []) (h' := h9) rfl).trans ?_
    exact es_cut rfl rfl rfl
  · refine (es_st 3 (pc' := 209) (L' := [(0, .ref 31), (2, .int x0_2)]) (S' := [.int (316 : Int32), .ref 27]) (h' := h) rfl).trans ?_
    refine (es_cI (b := true) (k' := 45) (pc' := 212) (as := [.ref 27, .int (316 : Int32)]) (S' := []) (L' := [(0, .ref 31), (2, .int x0_2)]) (h' := h) rfl rfl rfl rfl rfl).trans (kI_cg fun x2 h1 => ?_)
    refine (zs_eq (t := 240) rfl rfl rfl).trans (if_cg ?_ ?_)
    · refine (es_st 5 (pc' := 251) (L' := [(0, .ref 31), (2, .int x0_2)]) (S' := [.int (315 : Int32), .int (sF h1 27 6), .ref 31]) (h' := h1) rfl).trans ?_
      refine (is_ne (t := 258) rfl rfl rfl).trans (if_cg ?_ ?_)
      · refine (es_st 2 (pc' := 259) (L' := [(0, .ref 31), (2, .int x0_2)]) (S' := [.int (1 : Int32), .ref 31]) (h' := h1) rfl).trans ?_
        exact es_cut rfl rfl rfl
      · refine (es_st 1 (pc' := 259) (L' := [(0, .ref 31), (2, .int x0_2)]) (S' := [.int (0 : Int32), .ref 31]) (h' := h1) rfl).trans ?_
        exact es_cut rfl rfl rfl
    · refine (es_st 3 (pc' := 221) (L' := [(0, .ref 31), (2, .int x0_2)]) (S' := [.int (58 : Int32), .ref 27]) (h' := h1) rfl).trans ?_
      refine (es_cV (b := true) (k' := 44) (pc' := 224) (as := [.ref 27, .int (58 : Int32)]) (S' := []) (L' := [(0, .ref 31), (2, .int x0_2)]) (h' := h1) rfl rfl rfl rfl rfl).trans (kV_cg fun h3 => ?_)
      refine (es_st 2 (pc' := 227) (L' := [(0, .ref 31), (2, .int x0_2)]) (S' := [.int (27 : Int32), .ref 31]) (h' := h3) rfl).trans ?_
      refine (es_cV (b := true) (k' := 80) (pc' := 230) (as := [.ref 31, .int (27 : Int32)]) (S' := []) (L' := [(0, .ref 31), (2, .int x0_2)]) (h' := h3) rfl rfl rfl rfl rfl).trans (kV_cg fun h4 => ?_)
      refine (es_st 1 (pc' := 231) (L' := [(0, .ref 31), (2, .int x0_2)]) (S' := [.ref 31]) (h' := h4) rfl).trans ?_
      refine (es_cV (b := true) (k' := 78) (pc' := 234) (as := [.ref 31]) (S' := []) (L' := [(0, .ref 31), (2, .int x0_2)]) (h' := h4) rfl rfl rfl rfl rfl).trans (kV_cg fun h5 => ?_)
      refine (es_st 2 (pc' := 237) (L' := [(0, .ref 31), (2, .int x0_2)]) (S' := [.int (26 : Int32), .ref 31]) (h' := h5) rfl).trans ?_
      refine (es_cV (b := true) (k' := 80) (pc' := 240) (as := [.ref 31, .int (26 : Int32)]) (S' := []) (L' := [(0, .ref 31), (2, .int x0_2)]) (h' := h5) rfl rfl rfl rfl rfl).trans (kV_cg fun h6 => ?_)
      refine (es_st 5 (pc' := 251) (L' := [(0, .ref 31), (2, .int x0_2)]) (S' := [.int (315 : Int32), .int (sF h6 27 6), .ref 31]) (h' := h6) rfl).trans ?_
      refine (is_ne (t := 258) rfl rfl rfl).trans (if_cg ?_ ?_)
      · refine (es_st 2 (pc' := 259) (L' := [(0, .ref 31), (2, .int x0_2)]) (S' := [.int (1 : Int32), .ref 31]) (h' := h6) rfl).trans ?_
        exact es_cut rfl rfl rfl
      · refine (es_st 1 (pc' := 259) (L' := [(0, .ref 31), (2, .int x0_2)]) (S' := [.int (0 : Int32), .ref 31]) (h' := h6) rfl).trans ?_
        exact es_cut rfl rfl rfl
theorem sX3_among_137 (d : Nat) (hd : 4 ≤ d) (h : SG) (x0_2 : Int32) (x0_3 : Int32) (x0_4 : Int32) : evS true d 81 137 [(0, .ref 31), (2, .int x0_2), (3, .int x0_3), (4, .int x0_4)] [] h = kI (mS true (d - 1) 45 [.ref 27, .int (44 : Int32)] h) (fun x2 h1 => if x2 = 0 then if (sF h1 31 2) = 0 then kV (mS true (d - 1) 44 [.ref 27, .int (58 : Int32)] h1) (fun h3 => kV (mS true (d - 1) 78 [.ref 31] h3) (fun h4 => kV (mS true (d - 1) 80 [.ref 31, .int (26 : Int32)] h4) (fun h5 => evS true d 81 91 [(0, .ref 31), (2, .int x0_2)] [] h5))) else ob (rSet h1 104 x0_3 x0_4) (fun h6 => kV (mS true (d - 1) 44 [.ref 27, .int (58 : Int32)] h6) (fun h7 => kV (mS true (d - 1) 78 [.ref 31] h7) (fun h8 => kV (mS true (d - 1) 80 [.ref 31, .int (26 : Int32)] h8) (fun h9 => evS true d 81 91 [(0, .ref 31), (2, .int x0_2)] [] h9)))) else kV (mS true (d - 1) 82 [.ref 31, .int x0_2] h1) (fun h10 => evS true d 81 137 [(0, .ref 31), (2, .int x0_2), (3, .int x0_3), (4, .int (x0_4 + (1 : Int32)))] [] h10)) := by
  obtain ⟨d, rfl⟩ : ∃ e, d = e + 4 := ⟨d - 4, by omega⟩
  refine (es_st 3 (pc' := 143) (L' := [(0, .ref 31), (2, .int x0_2), (3, .int x0_3), (4, .int x0_4)]) (S' := [.int (44 : Int32), .ref 27]) (h' := h) rfl).trans ?_
  refine (es_cI (b := true) (k' := 45) (pc' := 146) (as := [.ref 27, .int (44 : Int32)]) (S' := []) (L' := [(0, .ref 31), (2, .int x0_2), (3, .int x0_3), (4, .int x0_4)]) (h' := h) rfl rfl rfl rfl rfl).trans (kI_cg fun x2 h1 => ?_)
  refine (zs_eq (t := 160) rfl rfl rfl).trans (if_cg ?_ ?_)
  · refine (es_st 2 (pc' := 164) (L' := [(0, .ref 31), (2, .int x0_2), (3, .int x0_3), (4, .int x0_4)]) (S' := [.int (sF h1 31 2)]) (h' := h1) rfl).trans ?_
    refine (zs_eq (t := 180) rfl rfl rfl).trans (if_cg ?_ ?_)
    · refine (es_st 3 (pc' := 186) (L' := [(0, .ref 31), (2, .int x0_2), (3, .int x0_3), (4, .int x0_4)]) (S' := [.int (58 : Int32), .ref 27]) (h' := h1) rfl).trans ?_
      refine (es_cV (b := true) (k' := 44) (pc' := 189) (as := [.ref 27, .int (58 : Int32)]) (S' := []) (L' := [(0, .ref 31), (2, .int x0_2), (3, .int x0_3), (4, .int x0_4)]) (h' := h1) rfl rfl rfl rfl rfl).trans (kV_cg fun h3 => ?_)
      refine (es_st 1 (pc' := 190) (L' := [(0, .ref 31), (2, .int x0_2), (3, .int x0_3), (4, .int x0_4)]) (S' := [.ref 31]) (h' := h3) rfl).trans ?_
      refine (es_cV (b := true) (k' := 78) (pc' := 193) (as := [.ref 31]) (S' := []) (L' := [(0, .ref 31), (2, .int x0_2), (3, .int x0_3), (4, .int x0_4)]) (h' := h3) rfl rfl rfl rfl rfl).trans (kV_cg fun h4 => ?_)
      refine (es_st 2 (pc' := 196) (L' := [(0, .ref 31), (2, .int x0_2), (3, .int x0_3), (4, .int x0_4)]) (S' := [.int (26 : Int32), .ref 31]) (h' := h4) rfl).trans ?_
      refine (es_cV (b := true) (k' := 80) (pc' := 199) (as := [.ref 31, .int (26 : Int32)]) (S' := []) (L' := [(0, .ref 31), (2, .int x0_2), (3, .int x0_3), (4, .int x0_4)]) (h' := h4) rfl rfl rfl rfl rfl).trans (kV_cg fun h5 => ?_)
      refine (es_st 1 (pc' := 91) (L' := [(0, .ref 31), (2, .int x0_2), (3, .int x0_3), (4, .int x0_4)]) (S' := []) (h' := h5) rfl).trans ?_
      exact es_cut rfl rfl rfl
    · refine (es_st 5 (pc' := 177) (L' := [(0, .ref 31), (2, .int x0_2), (3, .int x0_3), (4, .int x0_4)]) (S' := [.int x0_4, .int x0_3, .ref 104]) (h' := h1) rfl).trans ?_
      refine (es_ob (o := rSet h1 104 x0_3 x0_4) (pc' := 180) (L' := [(0, .ref 31), (2, .int x0_2), (3, .int x0_3), (4, .int x0_4)]) (S' := fun z => []) (h' := fun z => z) rfl rfl rfl).trans (ob_cg fun h6 => ?_)
      refine (es_st 3 (pc' := 186) (L' := [(0, .ref 31), (2, .int x0_2), (3, .int x0_3), (4, .int x0_4)]) (S' := [.int (58 : Int32), .ref 27]) (h' := h6) rfl).trans ?_
      refine (es_cV (b := true) (k' := 44) (pc' := 189) (as := [.ref 27, .int (58 : Int32)]) (S' := []) (L' := [(0, .ref 31), (2, .int x0_2), (3, .int x0_3), (4, .int x0_4)]) (h' := h6) rfl rfl rfl rfl rfl).trans (kV_cg fun h7 => ?_)
      refine (es_st 1 (pc' := 190) (L' := [(0, .ref 31), (2, .int x0_2), (3, .int x0_3), (4, .int x0_4)]) (S' := [.ref 31]) (h' := h7) rfl).trans ?_
      refine (es_cV (b := true) (k' := 78) (pc' := 193) (as := [.ref 31]) (S' := []) (L' := [(0, .ref 31), (2, .int x0_2), (3, .int x0_3), (4, .int x0_4)]) (h' := h7) rfl rfl rfl rfl rfl).trans (kV_cg fun h8 => ?_)
      refine (es_st 2 (pc' := 196) (L' := [(0, .ref 31), (2, .int x0_2), (3, .int x0_3), (4, .int x0_4)]) (S' := [.int (26 : Int32), .ref 31]) (h' := h8) rfl).trans ?_
      refine (es_cV (b := true) (k' := 80) (pc' := 199) (as := [.ref 31, .int (26 : Int32)]) (S' := []) (L' := [(0, .ref 31), (2, .int x0_2), (3, .int x0_3), (4, .int x0_4)]) (h' := h8) rfl rfl rfl rfl rfl).trans (kV_cg fun h9 => ?_)
      refine (es_st 1 (pc' := 91) (L' := [(0, .ref 31), (2, .int x0_2), (3, .int x0_3), (4, .int x0_4)]) (S' := []) (h' := h9) rfl).trans ?_
      exact es_cut rfl rfl rfl
  · refine (es_st 2 (pc' := 151) (L' := [(0, .ref 31), (2, .int x0_2), (3, .int x0_3), (4, .int x0_4)]) (S' := [.int x0_2, .ref 31]) (h' := h1) rfl).trans ?_
    refine (es_cV (b := true) (k' := 82) (pc' := 154) (as := [.ref 31, .int x0_2]) (S' := []) (L' := [(0, .ref 31), (2, .int x0_2), (3, .int x0_3), (4, .int x0_4)]) (h' := h1) rfl rfl rfl rfl rfl).trans (kV_cg fun h10 => ?_)
    refine (es_st 2 (pc' := 137) (L' := [(4, .int (x0_4 + (1 : Int32))), (0, .ref 31), (2, .int x0_2), (3, .int x0_3)]) (S' := []) (h' := h10) rfl).trans ?_
    exact es_cut rfl rfl rfl
theorem sX3_among_259 (d : Nat) (hd : 4 ≤ d) (h : SG) (s0 : Int32) : evS true d 81 259 [(0, .ref 31)] [.int s0, .ref 31] h = kV (mS true (d - 1) 49 [.ref 31, .int s0, .int (2 : Int32), .int (sF h 27 7)] h) (fun h1 => kV (mS true (d - 1) 80 [.ref 31, .int (28 : Int32)] h1) (fun h2 => kV (mS true (d - 1) 30 [.ref 27] (uF h2 31 4 ((sF h2 31 4) - (1 : Int32)))) (fun h3 => some (.inl none, h3)))) := by
  obtain ⟨d, rfl⟩ : ∃ e, d = e + 4 := ⟨d - 4, by omega⟩
  refine (es_st 4 (pc' := 267) (L' := [(0, .ref 31)]) (S' := [.int (sF h 27 7), .int (2 : Int32), .int s0, .ref 31]) (h' := h) rfl).trans ?_
  refine (es_cV (b := true) (k' := 49) (pc' := 270) (as := [.ref 31, .int s0, .int (2 : Int32), .int (sF h 27 7)]) (S' := []) (L' := [(0, .ref 31)]) (h' := h) rfl rfl rfl rfl rfl).trans (kV_cg fun h1 => ?_)
  refine (es_st 2 (pc' := 273) (L' := [(0, .ref 31)]) (S' := [.int (28 : Int32), .ref 31]) (h' := h1) rfl).trans ?_
  refine (es_cV (b := true) (k' := 80) (pc' := 276) (as := [.ref 31, .int (28 : Int32)]) (S' := []) (L' := [(0, .ref 31)]) (h' := h1) rfl rfl rfl rfl rfl).trans (kV_cg fun h2 => ?_)
  refine (es_st 8 (pc' := 290) (L' := [(0, .ref 31)]) (S' := [.ref 27]) (h' := (uF h2 31 4 ((sF h2 31 4) - (1 : Int32)))) rfl).trans ?_
  refine (es_cV (b := true) (k' := 30) (pc' := 293) (as := [.ref 27]) (S' := []) (L' := [(0, .ref 31)]) (h' := (uF h2 31 4 ((sF h2 31 4) - (1 : Int32)))) rfl rfl rfl rfl rfl).trans (kV_cg fun h3 => ?_)
  exact es_fin rfl rfl rfl
theorem sX3_label_0 (d : Nat) (hd : 1 ≤ d) (h : SG) (x0_1 : Int32) : mS true d 82 [.ref 31, .int x0_1] h = if (sF h 27 6) = (259 : Int32) then evS true d 82 19 [(0, .ref 31), (1, .int x0_1)] [.int (1 : Int32), .ref 31] h else evS true d 82 19 [(0, .ref 31), (1, .int x0_1)] [.int (0 : Int32), .ref 31] h := by
  obtain ⟨d, rfl⟩ : ∃ e, d = e + 1 := ⟨d - 1, by omega⟩
  show evS true (d + 1) 82 0 [(0, .ref 31), (1, .int x0_1)] [] h = _
  refine (es_st 5 (pc' := 11) (L' := [(0, .ref 31), (1, .int x0_1)]) (S' := [.int (259 : Int32), .int (sF h 27 6), .ref 31]) (h' := h) rfl).trans ?_
  refine (is_ne (t := 18) rfl rfl rfl).trans (if_cg ?_ ?_)
  · refine (es_st 2 (pc' := 19) (L' := [(0, .ref 31), (1, .int x0_1)]) (S' := [.int (1 : Int32), .ref 31]) (h' := h) rfl).trans ?_
    exact es_cut rfl rfl rfl
  · refine (es_st 1 (pc' := 19) (L' := [(0, .ref 31), (1, .int x0_1)]) (S' := [.int (0 : Int32), .ref 31]) (h' := h) rfl).trans ?_
    exact es_cut rfl rfl rfl
theorem sX3_label_19 (d : Nat) (hd : 1 ≤ d) (h : SG) (x0_1 : Int32) (s0 : Int32) : evS true d 82 19 [(0, .ref 31), (1, .int x0_1)] [.int s0, .ref 31] h = kV (mS true (d - 1) 49 [.ref 31, .int s0, .int (2 : Int32), .int (sF h 27 7)] h) (fun h1 => if (sF h1 31 2) = 0 then evS true d 82 54 [(0, .ref 31), (1, .int x0_1)] [.int (1 : Int32), .ref 31] h1 else if (sF h1 27 10) = x0_1 then evS true d 82 54 [(0, .ref 31), (1, .int x0_1)] [.int (1 : Int32), .ref 31] h1 else evS true d 82 54 [(0, .ref 31), (1, .int x0_1)] [.int (0 : Int32), .ref 31] h1) := by
  obtain ⟨d, rfl⟩ : ∃ e, d = e + 1 := ⟨d - 1, by omega⟩
  refine (es_st 4 (pc' := 27) (L' := [(0, .ref 31), (1, .int x0_1)]) (S' := [.int (sF h 27 7), .int (2 : Int32), .int s0, .ref 31]) (h' := h) rfl).trans ?_
  refine (es_cV (b := true) (k' := 49) (pc' := 30) (as := [.ref 31, .int s0, .int (2 : Int32), .int (sF h 27 7)]) (S' := []) (L' := [(0, .ref 31), (1, .int x0_1)]) (h' := h) rfl rfl rfl rfl rfl).trans (kV_cg fun h1 => ?_)
  refine (es_st 3 (pc' := 35) (L' := [(0, .ref 31), (1, .int x0_1)]) (S' := [.int (sF h1 31 2), .ref 31]) (h' := h1) rfl).trans ?_
  refine (zs_eq (t := 49) rfl rfl rfl).trans (if_cg ?_ ?_)
  · refine (es_st 2 (pc' := 54) (L' := [(0, .ref 31), (1, .int x0_1)]) (S' := [.int (1 : Int32), .ref 31]) (h' := h1) rfl).trans ?_
    exact es_cut rfl rfl rfl
  · refine (es_st 4 (pc' := 46) (L' := [(0, .ref 31), (1, .int x0_1)]) (S' := [.int x0_1, .int (sF h1 27 10), .ref 31]) (h' := h1) rfl).trans ?_
    refine (is_ne (t := 53) rfl rfl rfl).trans (if_cg ?_ ?_)
    · refine (es_st 2 (pc' := 54) (L' := [(0, .ref 31), (1, .int x0_1)]) (S' := [.int (1 : Int32), .ref 31]) (h' := h1) rfl).trans ?_
      exact es_cut rfl rfl rfl
    · refine (es_st 1 (pc' := 54) (L' := [(0, .ref 31), (1, .int x0_1)]) (S' := [.int (0 : Int32), .ref 31]) (h' := h1) rfl).trans ?_
      exact es_cut rfl rfl rfl
theorem sX3_label_54 (d : Nat) (hd : 1 ≤ d) (h : SG) (x0_1 : Int32) (s0 : Int32) : evS true d 82 54 [(0, .ref 31), (1, .int x0_1)] [.int s0, .ref 31] h = kV (mS true (d - 1) 49 [.ref 31, .int s0, .int (30 : Int32), .int (sF h 27 7)] h) (fun h1 => if (sF h1 31 2) = 0 then evS true d 82 78 [(0, .ref 31)] [] h1 else kV (mS true (d - 1) 70 [.ref 31, .int x0_1] h1) (fun h2 => evS true d 82 78 [(0, .ref 31)] [] h2)) := by
  obtain ⟨d, rfl⟩ : ∃ e, d = e + 1 := ⟨d - 1, by omega⟩
  refine (es_st 4 (pc' := 63) (L' := [(0, .ref 31), (1, .int x0_1)]) (S' := [.int (sF h 27 7), .int (30 : Int32), .int s0, .ref 31]) (h' := h) rfl).trans ?_
  refine (es_cV (b := true) (k' := 49) (pc' := 66) (as := [.ref 31, .int s0, .int (30 : Int32), .int (sF h 27 7)]) (S' := []) (L' := [(0, .ref 31), (1, .int x0_1)]) (h' := h) rfl rfl rfl rfl rfl).trans (kV_cg fun h1 => ?_)
  refine (es_st 2 (pc' := 70) (L' := [(0, .ref 31), (1, .int x0_1)]) (S' := [.int (sF h1 31 2)]) (h' := h1) rfl).trans ?_
  refine (zs_eq (t := 78) rfl rfl rfl).trans (if_cg ?_ ?_)
  · exact es_cut rfl rfl rfl
  · refine (es_st 2 (pc' := 75) (L' := [(0, .ref 31), (1, .int x0_1)]) (S' := [.int x0_1, .ref 31]) (h' := h1) rfl).trans ?_
    refine (es_cV (b := true) (k' := 70) (pc' := 78) (as := [.ref 31, .int x0_1]) (S' := []) (L' := [(0, .ref 31), (1, .int x0_1)]) (h' := h1) rfl rfl rfl rfl rfl).trans (kV_cg fun h2 => ?_)
    exact es_cut rfl rfl rfl
theorem sX3_label_78 (d : Nat) (hd : 1 ≤ d) (h : SG) : evS true d 82 78 [(0, .ref 31)] [] h = kV (mS true (d - 1) 80 [.ref 31, .int (sJ h 27 9).toInt32] h) (fun h1 => kV (mS true (d - 1) 80 [.ref 31, .int (lus (sJ h1 27 9) (32 : Int32)).toInt32] h1) (fun h2 => kV (mS true (d - 1) 30 [.ref 27] h2) (fun h3 => some (.inl none, h3)))) := by
  obtain ⟨d, rfl⟩ : ∃ e, d = e + 1 := ⟨d - 1, by omega⟩
  refine (es_st 5 (pc' := 87) (L' := [(0, .ref 31)]) (S' := [.int (sJ h 27 9).toInt32, .ref 31]) (h' := h) rfl).trans ?_
  refine (es_cV (b := true) (k' := 80) (pc' := 90) (as := [.ref 31, .int (sJ h 27 9).toInt32]) (S' := []) (L' := [(0, .ref 31)]) (h' := h) rfl rfl rfl rfl rfl).trans (kV_cg fun h1 => ?_)
  refine (es_st 7 (pc' := 102) (L' := [(0, .ref 31)]) (S' := [.int (lus (sJ h1 27 9) (32 : Int32)).toInt32, .ref 31]) (h' := h1) rfl).trans ?_
  refine (es_cV (b := true) (k' := 80) (pc' := 105) (as := [.ref 31, .int (lus (sJ h1 27 9) (32 : Int32)).toInt32]) (S' := []) (L' := [(0, .ref 31)]) (h' := h1) rfl rfl rfl rfl rfl).trans (kV_cg fun h2 => ?_)
  refine (es_st 2 (pc' := 109) (L' := [(0, .ref 31)]) (S' := [.ref 27]) (h' := h2) rfl).trans ?_
  refine (es_cV (b := true) (k' := 30) (pc' := 112) (as := [.ref 27]) (S' := []) (L' := [(0, .ref 31)]) (h' := h2) rfl rfl rfl rfl rfl).trans (kV_cg fun h3 => ?_)
  exact es_fin rfl rfl rfl
theorem sX3_set_0 (d : Nat) (hd : 4 ≤ d) (h : SG) : mS true d 83 [.ref 31] h = kI (mS true (d - 1) 59 [.ref 31, .int (2 : Int32)] h) (fun x2 h1 => if (sF h1 31 2) = 0 then evS true d 83 83 [(0, .ref 31), (1, .int x2)] [] h1 else kI (mS true (d - 1) 134 [.ref 93, .int (sF h1 31 3)] h1) (fun x4 h3 => ob (rAt h3 38 (x2 - x4)) (fun x5 => if x5 = 0 then evS true d 83 59 [(0, .ref 31), (1, .int x2), (2, .int (x2 - x4))] [.int (1 : Int32), .ref 31] h3 else ob (rAt h3 38 (x2 - x4)) (fun x6 => if x6 = (sF h3 31 9) then evS true d 83 59 [(0, .ref 31), (1, .int x2), (2, .int (x2 - x4))] [.int (1 : Int32), .ref 31] h3 else evS true d 83 59 [(0, .ref 31), (1, .int x2), (2, .int (x2 - x4))] [.int (0 : Int32), .ref 31] h3)))) := by
  obtain ⟨d, rfl⟩ : ∃ e, d = e + 4 := ⟨d - 4, by omega⟩
  show evS true (d + 4) 83 0 [(0, .ref 31)] [] h = _
  refine (es_st 2 (pc' := 2) (L' := [(0, .ref 31)]) (S' := [.int (2 : Int32), .ref 31]) (h' := h) rfl).trans ?_
  refine (es_cI (b := true) (k' := 59) (pc' := 5) (as := [.ref 31, .int (2 : Int32)]) (S' := []) (L' := [(0, .ref 31)]) (h' := h) rfl rfl rfl rfl rfl).trans (kI_cg fun x2 h1 => ?_)
  refine (es_st 3 (pc' := 10) (L' := [(1, .int x2), (0, .ref 31)]) (S' := [.int (sF h1 31 2)]) (h' := h1) rfl).trans ?_
  refine (zs_eq (t := 83) rfl rfl rfl).trans (if_cg ?_ ?_)
  · exact es_cut rfl rfl rfl
  · refine (es_st 5 (pc' := 22) (L' := [(1, .int x2), (0, .ref 31)]) (S' := [.int (sF h1 31 3), .ref 93, .int x2]) (h' := h1) rfl).trans ?_
    refine (es_cI (b := true) (k' := 134) (pc' := 25) (as := [.ref 93, .int (sF h1 31 3)]) (S' := [.int x2]) (L' := [(1, .int x2), (0, .ref 31)]) (h' := h1) rfl rfl rfl rfl rfl).trans (kI_cg fun x4 h3 => ?_)
    refine (es_st 6 (pc' := 33) (L' := [(2, .int (x2 - x4)), (1, .int x2), (0, .ref 31)]) (S' := [.int (x2 - x4), .ref 38, .ref 31]) (h' := h3) rfl).trans ?_
    refine (es_ob (o := rAt h3 38 (x2 - x4)) (pc' := 36) (L' := [(2, .int (x2 - x4)), (1, .int x2), (0, .ref 31)]) (S' := fun z => [.int z, .ref 31]) (h' := fun z => h3) rfl rfl rfl).trans (ob_cg fun x5 => ?_)
    refine (zs_eq (t := 54) rfl rfl rfl).trans (if_cg ?_ ?_)
    · refine (es_st 2 (pc' := 59) (L' := [(2, .int (x2 - x4)), (1, .int x2), (0, .ref 31)]) (S' := [.int (1 : Int32), .ref 31]) (h' := h3) rfl).trans ?_
      exact es_cut rfl rfl rfl
    · refine (es_st 3 (pc' := 44) (L' := [(2, .int (x2 - x4)), (1, .int x2), (0, .ref 31)]) (S' := [.int (x2 - x4), .ref 38, .ref 31]) (h' := h3) rfl).trans ?_
      refine (es_ob (o := rAt h3 38 (x2 - x4)) (pc' := 47) (L' := [(2, .int (x2 - x4)), (1, .int x2), (0, .ref 31)]) (S' := fun z => [.int z, .ref 31]) (h' := fun z => h3) rfl rfl rfl).trans (ob_cg fun x6 => ?_)
      refine (es_st 2 (pc' := 51) (L' := [(2, .int (x2 - x4)), (1, .int x2), (0, .ref 31)]) (S' := [.int (sF h3 31 9), .int x6, .ref 31]) (h' := h3) rfl).trans ?_
      refine (is_ne (t := 58) rfl rfl rfl).trans (if_cg ?_ ?_)
      · refine (es_st 2 (pc' := 59) (L' := [(2, .int (x2 - x4)), (1, .int x2), (0, .ref 31)]) (S' := [.int (1 : Int32), .ref 31]) (h' := h3) rfl).trans ?_
        exact es_cut rfl rfl rfl
      · refine (es_st 1 (pc' := 59) (L' := [(2, .int (x2 - x4)), (1, .int x2), (0, .ref 31)]) (S' := [.int (0 : Int32), .ref 31]) (h' := h3) rfl).trans ?_
        exact es_cut rfl rfl rfl
theorem sX3_set_59 (d : Nat) (hd : 4 ≤ d) (h : SG) (x0_1 : Int32) (x0_2 : Int32) (s0 : Int32) : evS true d 83 59 [(0, .ref 31), (1, .int x0_1), (2, .int x0_2)] [.int s0, .ref 31] h = kV (mS true (d - 1) 49 [.ref 31, .int s0, .int (32 : Int32), .int (sF h 27 7)] h) (fun h1 => ob (rSet h1 38 x0_2 (sF h1 31 9)) (fun h2 => evS true d 83 83 [(0, .ref 31), (1, .int x0_1)] [] h2)) := by
  obtain ⟨d, rfl⟩ : ∃ e, d = e + 4 := ⟨d - 4, by omega⟩
  refine (es_st 4 (pc' := 68) (L' := [(0, .ref 31), (1, .int x0_1), (2, .int x0_2)]) (S' := [.int (sF h 27 7), .int (32 : Int32), .int s0, .ref 31]) (h' := h) rfl).trans ?_
  refine (es_cV (b := true) (k' := 49) (pc' := 71) (as := [.ref 31, .int s0, .int (32 : Int32), .int (sF h 27 7)]) (S' := []) (L' := [(0, .ref 31), (1, .int x0_1), (2, .int x0_2)]) (h' := h) rfl rfl rfl rfl rfl).trans (kV_cg fun h1 => ?_)
  refine (es_st 5 (pc' := 80) (L' := [(0, .ref 31), (1, .int x0_1), (2, .int x0_2)]) (S' := [.int (sF h1 31 9), .int x0_2, .ref 38]) (h' := h1) rfl).trans ?_
  refine (es_ob (o := rSet h1 38 x0_2 (sF h1 31 9)) (pc' := 83) (L' := [(0, .ref 31), (1, .int x0_1), (2, .int x0_2)]) (S' := fun z => []) (h' := fun z => z) rfl rfl rfl).trans (ob_cg fun h2 => ?_)
  exact es_cut rfl rfl rfl
theorem sX3_set_83 (d : Nat) (hd : 4 ≤ d) (h : SG) (x0_1 : Int32) : evS true d 83 83 [(0, .ref 31), (1, .int x0_1)] [] h = kV (mS true (d - 1) 30 [.ref 27] h) (fun h1 => if (sF h1 31 2) = 0 then evS true d 83 111 [(0, .ref 31), (1, .int x0_1)] [.int (0 : Int32)] h1 else kI (mS true (d - 1) 137 [.ref 93, .int x0_1] h1) (fun x3 h2 => evS true d 83 111 [(0, .ref 31), (1, .int x0_1)] [.int (x3 - (1 : Int32))] h2)) := by
  obtain ⟨d, rfl⟩ : ∃ e, d = e + 4 := ⟨d - 4, by omega⟩
  refine (es_st 2 (pc' := 87) (L' := [(0, .ref 31), (1, .int x0_1)]) (S' := [.ref 27]) (h' := h) rfl).trans ?_
  refine (es_cV (b := true) (k' := 30) (pc' := 90) (as := [.ref 27]) (S' := []) (L' := [(0, .ref 31), (1, .int x0_1)]) (h' := h) rfl rfl rfl rfl rfl).trans (kV_cg fun h1 => ?_)
  refine (es_st 2 (pc' := 94) (L' := [(0, .ref 31), (1, .int x0_1)]) (S' := [.int (sF h1 31 2)]) (h' := h1) rfl).trans ?_
  refine (zs_eq (t := 110) rfl rfl rfl).trans (if_cg ?_ ?_)
  · refine (es_st 1 (pc' := 111) (L' := [(0, .ref 31), (1, .int x0_1)]) (S' := [.int (0 : Int32)]) (h' := h1) rfl).trans ?_
    exact es_cut rfl rfl rfl
  · refine (es_st 3 (pc' := 102) (L' := [(0, .ref 31), (1, .int x0_1)]) (S' := [.int x0_1, .ref 93]) (h' := h1) rfl).trans ?_
    refine (es_cI (b := true) (k' := 137) (pc' := 105) (as := [.ref 93, .int x0_1]) (S' := []) (L' := [(0, .ref 31), (1, .int x0_1)]) (h' := h1) rfl rfl rfl rfl rfl).trans (kI_cg fun x3 h2 => ?_)
    refine (es_st 3 (pc' := 111) (L' := [(0, .ref 31), (1, .int x0_1)]) (S' := [.int (x3 - (1 : Int32))]) (h' := h2) rfl).trans ?_
    exact es_cut rfl rfl rfl
theorem sX3_set_111 (d : Nat) (hd : 4 ≤ d) (h : SG) (x0_1 : Int32) (s0 : Int32) : evS true d 83 111 [(0, .ref 31), (1, .int x0_1)] [.int s0] h = if (sF h 27 6) = (91 : Int32) then kV (mS true (d - 1) 69 [.ref 31] h) (fun h1 => kV (mS true (d - 1) 30 [.ref 27] h1) (fun h2 => kI (mS true (d - 1) 54 [.ref 31] h2) (fun x4 h3 => kI (mS true (d - 1) 45 [.ref 27, .int (58 : Int32)] h3) (fun x6 h5 => if x6 = 0 then evS true d 83 171 [(0, .ref 31), (1, .int x0_1), (2, .int x4), (4, .int (sF h 27 7))] [.int x4] h5 else kI (mS true (d - 1) 54 [.ref 31] h5) (fun x8 h7 => evS true d 83 171 [(0, .ref 31), (1, .int x0_1), (2, .int x4), (4, .int (sF h 27 7))] [.int x8] h7))))) else evS true d 83 228 [(0, .ref 31), (1, .int x0_1), (2, .int s0), (3, .int (0 : Int32))] [] h := by
  obtain ⟨d, rfl⟩ : ∃ e, d = e + 4 := ⟨d - 4, by omega⟩
  refine (es_st 7 (pc' := 123) (L' := [(3, .int (0 : Int32)), (2, .int s0), (0, .ref 31), (1, .int x0_1)]) (S' := [.int (91 : Int32), .int (sF h 27 6)]) (h' := h) rfl).trans ?_
  refine (is_ne (t := 228) rfl rfl rfl).trans (if_cg ?_ ?_)
  · refine (es_st 5 (pc' := 136) (L' := [(4, .int (sF h 27 7)), (3, .int (0 : Int32)), (2, .int s0), (0, .ref 31), (1, .int x0_1)]) (S' := [.ref 31]) (h' := h) rfl).trans ?_
    refine (es_cV (b := true) (k' := 69) (pc' := 139) (as := [.ref 31]) (S' := []) (L' := [(4, .int (sF h 27 7)), (3, .int (0 : Int32)), (2, .int s0), (0, .ref 31), (1, .int x0_1)]) (h' := h) rfl rfl rfl rfl rfl).trans (kV_cg fun h1 => ?_)
    refine (es_st 2 (pc' := 143) (L' := [(4, .int (sF h 27 7)), (3, .int (0 : Int32)), (2, .int s0), (0, .ref 31), (1, .int x0_1)]) (S' := [.ref 27]) (h' := h1) rfl).trans ?_
    refine (es_cV (b := true) (k' := 30) (pc' := 146) (as := [.ref 27]) (S' := []) (L' := [(4, .int (sF h 27 7)), (3, .int (0 : Int32)), (2, .int s0), (0, .ref 31), (1, .int x0_1)]) (h' := h1) rfl rfl rfl rfl rfl).trans (kV_cg fun h2 => ?_)
    refine (es_st 1 (pc' := 147) (L' := [(4, .int (sF h 27 7)), (3, .int (0 : Int32)), (2, .int s0), (0, .ref 31), (1, .int x0_1)]) (S' := [.ref 31]) (h' := h2) rfl).trans ?_
    refine (es_cI (b := true) (k' := 54) (pc' := 150) (as := [.ref 31]) (S' := []) (L' := [(4, .int (sF h 27 7)), (3, .int (0 : Int32)), (2, .int s0), (0, .ref 31), (1, .int x0_1)]) (h' := h2) rfl rfl rfl rfl rfl).trans (kI_cg fun x4 h3 => ?_)
    refine (es_st 4 (pc' := 157) (L' := [(2, .int x4), (4, .int (sF h 27 7)), (3, .int (0 : Int32)), (0, .ref 31), (1, .int x0_1)]) (S' := [.int (58 : Int32), .ref 27]) (h' := h3) rfl).trans ?_
    refine (es_cI (b := true) (k' := 45) (pc' := 160) (as := [.ref 27, .int (58 : Int32)]) (S' := []) (L' := [(2, .int x4), (4, .int (sF h 27 7)), (3, .int (0 : Int32)), (0, .ref 31), (1, .int x0_1)]) (h' := h3) rfl rfl rfl rfl rfl).trans (kI_cg fun x6 h5 => ?_)
    refine (zs_eq (t := 170) rfl rfl rfl).trans (if_cg ?_ ?_)
    · refine (es_st 1 (pc' := 171) (L' := [(2, .int x4), (4, .int (sF h 27 7)), (3, .int (0 : Int32)), (0, .ref 31), (1, .int x0_1)]) (S' := [.int x4]) (h' := h5) rfl).trans ?_
      exact es_cut rfl rfl rfl
    · refine (es_st 1 (pc' := 164) (L' := [(2, .int x4), (4, .int (sF h 27 7)), (3, .int (0 : Int32)), (0, .ref 31), (1, .int x0_1)]) (S' := [.ref 31]) (h' := h5) rfl).trans ?_
      refine (es_cI (b := true) (k' := 54) (pc' := 167) (as := [.ref 31]) (S' := []) (L' := [(2, .int x4), (4, .int (sF h 27 7)), (3, .int (0 : Int32)), (0, .ref 31), (1, .int x0_1)]) (h' := h5) rfl rfl rfl rfl rfl).trans (kI_cg fun x8 h7 => ?_)
      refine (es_st 1 (pc' := 171) (L' := [(2, .int x4), (4, .int (sF h 27 7)), (3, .int (0 : Int32)), (0, .ref 31), (1, .int x0_1)]) (S' := [.int x8]) (h' := h7) rfl).trans ?_
      exact es_cut rfl rfl rfl
  · exact es_cut rfl rfl rfl
theorem sX3_set_171 (d : Nat) (hd : 4 ≤ d) (h : SG) (x0_1 : Int32) (x0_2 : Int32) (x0_4 : Int32) (s0 : Int32) : evS true d 83 171 [(0, .ref 31), (1, .int x0_1), (2, .int x0_2), (4, .int x0_4)] [.int s0] h = kV (mS true (d - 1) 44 [.ref 27, .int (93 : Int32)] (uF h 31 4 ((sF h 31 4) - (1 : Int32)))) (fun h1 => if (sF h1 31 2) = 0 then kV (mS true (d - 1) 49 [.ref 31, .int (1 : Int32), .int (30 : Int32), .int x0_4] h1) (fun h2 => evS true d 83 228 [(0, .ref 31), (1, .int x0_1), (2, .int x0_2), (3, .int s0)] [] h2) else if x0_2 < s0 then kV (mS true (d - 1) 49 [.ref 31, .int (0 : Int32), .int (30 : Int32), .int x0_4] h1) (fun h3 => evS true d 83 228 [(0, .ref 31), (1, .int x0_1), (2, .int x0_2), (3, .int s0)] [] h3) else kI (mS true (d - 1) 137 [.ref 93, .int x0_1] h1) (fun x5 h4 => if x5 ≤ x0_2 then kV (mS true (d - 1) 49 [.ref 31, .int (0 : Int32), .int (30 : Int32), .int x0_4] h4) (fun h6 => evS true d 83 228 [(0, .ref 31), (1, .int x0_1), (2, .int x0_2), (3, .int s0)] [] h6) else kV (mS true (d - 1) 49 [.ref 31, .int (1 : Int32), .int (30 : Int32), .int x0_4] h4) (fun h7 => evS true d 83 228 [(0, .ref 31), (1, .int x0_1), (2, .int x0_2), (3, .int s0)] [] h7))) := by
  obtain ⟨d, rfl⟩ : ∃ e, d = e + 4 := ⟨d - 4, by omega⟩
  refine (es_st 10 (pc' := 188) (L' := [(3, .int s0), (0, .ref 31), (1, .int x0_1), (2, .int x0_2), (4, .int x0_4)]) (S' := [.int (93 : Int32), .ref 27]) (h' := (uF h 31 4 ((sF h 31 4) - (1 : Int32)))) rfl).trans ?_
  refine (es_cV (b := true) (k' := 44) (pc' := 191) (as := [.ref 27, .int (93 : Int32)]) (S' := []) (L' := [(3, .int s0), (0, .ref 31), (1, .int x0_1), (2, .int x0_2), (4, .int x0_4)]) (h' := (uF h 31 4 ((sF h 31 4) - (1 : Int32)))) rfl rfl rfl rfl rfl).trans (kV_cg fun h1 => ?_)
  refine (es_st 3 (pc' := 196) (L' := [(3, .int s0), (0, .ref 31), (1, .int x0_1), (2, .int x0_2), (4, .int x0_4)]) (S' := [.int (sF h1 31 2), .ref 31]) (h' := h1) rfl).trans ?_
  refine (zs_eq (t := 216) rfl rfl rfl).trans (if_cg ?_ ?_)
  · refine (es_st 4 (pc' := 225) (L' := [(3, .int s0), (0, .ref 31), (1, .int x0_1), (2, .int x0_2), (4, .int x0_4)]) (S' := [.int x0_4, .int (30 : Int32), .int (1 : Int32), .ref 31]) (h' := h1) rfl).trans ?_
    refine (es_cV (b := true) (k' := 49) (pc' := 228) (as := [.ref 31, .int (1 : Int32), .int (30 : Int32), .int x0_4]) (S' := []) (L' := [(3, .int s0), (0, .ref 31), (1, .int x0_1), (2, .int x0_2), (4, .int x0_4)]) (h' := h1) rfl rfl rfl rfl rfl).trans (kV_cg fun h2 => ?_)
    exact es_cut rfl rfl rfl
  · refine (es_st 2 (pc' := 201) (L' := [(3, .int s0), (0, .ref 31), (1, .int x0_1), (2, .int x0_2), (4, .int x0_4)]) (S' := [.int x0_2, .int s0, .ref 31]) (h' := h1) rfl).trans ?_
    refine (is_gt (t := 220) rfl rfl rfl).trans (if_cg ?_ ?_)
    · refine (es_st 3 (pc' := 225) (L' := [(3, .int s0), (0, .ref 31), (1, .int x0_1), (2, .int x0_2), (4, .int x0_4)]) (S' := [.int x0_4, .int (30 : Int32), .int (0 : Int32), .ref 31]) (h' := h1) rfl).trans ?_
      refine (es_cV (b := true) (k' := 49) (pc' := 228) (as := [.ref 31, .int (0 : Int32), .int (30 : Int32), .int x0_4]) (S' := []) (L' := [(3, .int s0), (0, .ref 31), (1, .int x0_1), (2, .int x0_2), (4, .int x0_4)]) (h' := h1) rfl rfl rfl rfl rfl).trans (kV_cg fun h3 => ?_)
      exact es_cut rfl rfl rfl
    · refine (es_st 4 (pc' := 210) (L' := [(3, .int s0), (0, .ref 31), (1, .int x0_1), (2, .int x0_2), (4, .int x0_4)]) (S' := [.int x0_1, .ref 93, .int x0_2, .ref 31]) (h' := h1) rfl).trans ?_
      refine (es_cI (b := true) (k' := 137) (pc' := 213) (as := [.ref 93, .int x0_1]) (S' := [.int x0_2, .ref 31]) (L' := [(3, .int s0), (0, .ref 31), (1, .int x0_1), (2, .int x0_2), (4, .int x0_4)]) (h' := h1) rfl rfl rfl rfl rfl).trans (kI_cg fun x5 h4 => ?_)
      refine (is_ge (t := 220) rfl rfl rfl).trans (if_cg ?_ ?_)
      · refine (es_st 3 (pc' := 225) (L' := [(3, .int s0), (0, .ref 31), (1, .int x0_1), (2, .int x0_2), (4, .int x0_4)]) (S' := [.int x0_4, .int (30 : Int32), .int (0 : Int32), .ref 31]) (h' := h4) rfl).trans ?_
        refine (es_cV (b := true) (k' := 49) (pc' := 228) (as := [.ref 31, .int (0 : Int32), .int (30 : Int32), .int x0_4]) (S' := []) (L' := [(3, .int s0), (0, .ref 31), (1, .int x0_1), (2, .int x0_2), (4, .int x0_4)]) (h' := h4) rfl rfl rfl rfl rfl).trans (kV_cg fun h6 => ?_)
        exact es_cut rfl rfl rfl
      · refine (es_st 4 (pc' := 225) (L' := [(3, .int s0), (0, .ref 31), (1, .int x0_1), (2, .int x0_2), (4, .int x0_4)]) (S' := [.int x0_4, .int (30 : Int32), .int (1 : Int32), .ref 31]) (h' := h4) rfl).trans ?_
        refine (es_cV (b := true) (k' := 49) (pc' := 228) (as := [.ref 31, .int (1 : Int32), .int (30 : Int32), .int x0_4]) (S' := []) (L' := [(3, .int s0), (0, .ref 31), (1, .int x0_1), (2, .int x0_2), (4, .int x0_4)]) (h' := h4) rfl rfl rfl rfl rfl).trans (kV_cg fun h7 => ?_)
        exact es_cut rfl rfl rfl
theorem sX3_set_228 (d : Nat) (hd : 4 ≤ d) (h : SG) (x0_1 : Int32) (x0_2 : Int32) (x0_3 : Int32) : evS true d 83 228 [(0, .ref 31), (1, .int x0_1), (2, .int x0_2), (3, .int x0_3)] [] h = kV (mS true (d - 1) 44 [.ref 27, .int (264 : Int32)] h) (fun h1 => kV (mS true (d - 1) 61 [.ref 31] h1) (fun h2 => if (sF h2 31 2) = 0 then evS true d 83 307 [(0, .ref 31), (1, .int x0_1), (2, .int x0_2), (3, .int x0_3), (5, .int (Int32.ofNat (sW h1 102).length))] [] h2 else ob (rTake h2 36) (fun q3 => if q3.1 = ((x0_2 - x0_3) + (1 : Int32)) then kV (mS true (d - 1) 49 [.ref 31, .int (1 : Int32), .int (30 : Int32), .int (sF h 27 7)] q3.2) (fun h6 => kV (mS true (d - 1) 70 [.ref 31, .int ((x0_2 - x0_3) + (1 : Int32))] h6) (fun h7 => evS true d 83 307 [(0, .ref 31), (1, .int x0_1), (2, .int x0_2), (3, .int x0_3), (5, .int (Int32.ofNat (sW h1 102).length))] [] h7)) else kV (mS true (d - 1) 49 [.ref 31, .int (0 : Int32), .int (30 : Int32), .int (sF h 27 7)] q3.2) (fun h4 => kV (mS true (d - 1) 70 [.ref 31, .int ((x0_2 - x0_3) + (1 : Int32))] h4) (fun h5 => evS true d 83 307 [(0, .ref 31), (1, .int x0_1), (2, .int x0_2), (3, .int x0_3), (5, .int (Int32.ofNat (sW h1 102).length))] [] h5))))) := by
  obtain ⟨d, rfl⟩ : ∃ e, d = e + 4 := ⟨d - 4, by omega⟩
  refine (es_st 7 (pc' := 244) (L' := [(4, .int (sF h 27 7)), (0, .ref 31), (1, .int x0_1), (2, .int x0_2), (3, .int x0_3)]) (S' := [.int (264 : Int32), .ref 27]) (h' := h) rfl).trans ?_
  refine (es_cV (b := true) (k' := 44) (pc' := 247) (as := [.ref 27, .int (264 : Int32)]) (S' := []) (L' := [(4, .int (sF h 27 7)), (0, .ref 31), (1, .int x0_1), (2, .int x0_2), (3, .int x0_3)]) (h' := h) rfl rfl rfl rfl rfl).trans (kV_cg fun h1 => ?_)
  refine (es_st 6 (pc' := 260) (L' := [(5, .int (Int32.ofNat (sW h1 102).length)), (4, .int (sF h 27 7)), (0, .ref 31), (1, .int x0_1), (2, .int x0_2), (3, .int x0_3)]) (S' := [.ref 31]) (h' := h1) rfl).trans ?_
  refine (es_cV (b := true) (k' := 61) (pc' := 263) (as := [.ref 31]) (S' := []) (L' := [(5, .int (Int32.ofNat (sW h1 102).length)), (4, .int (sF h 27 7)), (0, .ref 31), (1, .int x0_1), (2, .int x0_2), (3, .int x0_3)]) (h' := h1) rfl rfl rfl rfl rfl).trans (kV_cg fun h2 => ?_)
  refine (es_st 2 (pc' := 267) (L' := [(5, .int (Int32.ofNat (sW h1 102).length)), (4, .int (sF h 27 7)), (0, .ref 31), (1, .int x0_1), (2, .int x0_2), (3, .int x0_3)]) (S' := [.int (sF h2 31 2)]) (h' := h2) rfl).trans ?_
  refine (zs_eq (t := 307) rfl rfl rfl).trans (if_cg ?_ ?_)
  · exact es_cut rfl rfl rfl
  · refine (es_st 3 (pc' := 275) (L' := [(5, .int (Int32.ofNat (sW h1 102).length)), (4, .int (sF h 27 7)), (0, .ref 31), (1, .int x0_1), (2, .int x0_2), (3, .int x0_3)]) (S' := [.ref 36, .ref 31]) (h' := h2) rfl).trans ?_
    refine (es_ob (o := rTake h2 36) (pc' := 278) (L' := [(5, .int (Int32.ofNat (sW h1 102).length)), (4, .int (sF h 27 7)), (0, .ref 31), (1, .int x0_1), (2, .int x0_2), (3, .int x0_3)]) (S' := fun z => [.int z.1, .ref 31]) (h' := fun z => z.2) rfl rfl rfl).trans (ob_cg fun q3 => ?_)
    refine (es_st 5 (pc' := 283) (L' := [(5, .int (Int32.ofNat (sW h1 102).length)), (4, .int (sF h 27 7)), (0, .ref 31), (1, .int x0_1), (2, .int x0_2), (3, .int x0_3)]) (S' := [.int ((x0_2 - x0_3) + (1 : Int32)), .int q3.1, .ref 31]) (h' := q3.2) rfl).trans ?_
    refine (is_ne (t := 290) rfl rfl rfl).trans (if_cg ?_ ?_)
    · refine (es_st 4 (pc' := 295) (L' := [(5, .int (Int32.ofNat (sW h1 102).length)), (4, .int (sF h 27 7)), (0, .ref 31), (1, .int x0_1), (2, .int x0_2), (3, .int x0_3)]) (S' := [.int (sF h 27 7), .int (30 : Int32), .int (1 : Int32), .ref 31]) (h' := q3.2) rfl).trans ?_
      refine (es_cV (b := true) (k' := 49) (pc' := 298) (as := [.ref 31, .int (1 : Int32), .int (30 : Int32), .int (sF h 27 7)]) (S' := []) (L' := [(5, .int (Int32.ofNat (sW h1 102).length)), (4, .int (sF h 27 7)), (0, .ref 31), (1, .int x0_1), (2, .int x0_2), (3, .int x0_3)]) (h' := q3.2) rfl rfl rfl rfl rfl).trans (kV_cg fun h6 => ?_)
      refine (es_st 6 (pc' := 304) (L' := [(5, .int (Int32.ofNat (sW h1 102).length)), (4, .int (sF h 27 7)), (0, .ref 31), (1, .int x0_1), (2, .int x0_2), (3, .int x0_3)]) (S' := [.int ((x0_2 - x0_3) + (1 : Int32)), .ref 31]) (h' := h6) rfl).trans ?_
      refine (es_cV (b := true) (k' := 70) (pc' := 307) (as := [.ref 31, .int ((x0_2 - x0_3) + (1 : Int32))]) (S' := []) (L' := [(5, .int (Int32.ofNat (sW h1 102).length)), (4, .int (sF h 27 7)), (0, .ref 31), (1, .int x0_1), (2, .int x0_2), (3, .int x0_3)]) (h' := h6) rfl rfl rfl rfl rfl).trans (kV_cg fun h7 => ?_)
      exact es_cut rfl rfl rfl
    · refine (es_st 3 (pc' := 295) (L' := [(5, .int (Int32.ofNat (sW h1 102).length)), (4, .int (sF h 27 7)), (0, .ref 31), (1, .int x0_1), (2, .int x0_2), (3, .int x0_3)]) (S' := [.int (sF h 27 7), .int (30 : Int32), .int (0 : Int32), .ref 31]) (h' := q3.2) rfl).trans ?_
      refine (es_cV (b := true) (k' := 49) (pc' := 298) (as := [.ref 31, .int (0 : Int32), .int (30 : Int32), .int (sF h 27 7)]) (S' := []) (L' := [(5, .int (Int32.ofNat (sW h1 102).length)), (4, .int (sF h 27 7)), (0, .ref 31), (1, .int x0_1), (2, .int x0_2), (3, .int x0_3)]) (h' := q3.2) rfl rfl rfl rfl rfl).trans (kV_cg fun h4 => ?_)
      refine (es_st 6 (pc' := 304) (L' := [(5, .int (Int32.ofNat (sW h1 102).length)), (4, .int (sF h 27 7)), (0, .ref 31), (1, .int x0_1), (2, .int x0_2), (3, .int x0_3)]) (S' := [.int ((x0_2 - x0_3) + (1 : Int32)), .ref 31]) (h' := h4) rfl).trans ?_
      refine (es_cV (b := true) (k' := 70) (pc' := 307) (as := [.ref 31, .int ((x0_2 - x0_3) + (1 : Int32))]) (S' := []) (L' := [(5, .int (Int32.ofNat (sW h1 102).length)), (4, .int (sF h 27 7)), (0, .ref 31), (1, .int x0_1), (2, .int x0_2), (3, .int x0_3)]) (h' := h4) rfl rfl rfl rfl rfl).trans (kV_cg fun h5 => ?_)
      exact es_cut rfl rfl rfl
theorem sX3_set_307 (d : Nat) (hd : 4 ≤ d) (h : SG) (x0_1 : Int32) (x0_2 : Int32) (x0_3 : Int32) (x0_5 : Int32) : evS true d 83 307 [(0, .ref 31), (1, .int x0_1), (2, .int x0_2), (3, .int x0_3), (5, .int x0_5)] [] h = kV (mS true (d - 1) 79 [.ref 31, .int (20 : Int32), .int x0_1, .int x0_2] h) (fun h1 => kV (mS true (d - 1) 79 [.ref 31, .int x0_3, .int x0_5, .int (Int32.ofNat (sW h1 102).length)] h1) (fun h2 => kV (mS true (d - 1) 44 [.ref 27, .int (59 : Int32)] h2) (fun h3 => some (.inl none, h3)))) := by
  obtain ⟨d, rfl⟩ : ∃ e, d = e + 4 := ⟨d - 4, by omega⟩
  refine (es_st 4 (pc' := 312) (L' := [(0, .ref 31), (1, .int x0_1), (2, .int x0_2), (3, .int x0_3), (5, .int x0_5)]) (S' := [.int x0_2, .int x0_1, .int (20 : Int32), .ref 31]) (h' := h) rfl).trans ?_
  refine (es_cV (b := true) (k' := 79) (pc' := 315) (as := [.ref 31, .int (20 : Int32), .int x0_1, .int x0_2]) (S' := []) (L' := [(0, .ref 31), (1, .int x0_1), (2, .int x0_2), (3, .int x0_3), (5, .int x0_5)]) (h' := h) rfl rfl rfl rfl rfl).trans (kV_cg fun h1 => ?_)
  refine (es_st 7 (pc' := 329) (L' := [(0, .ref 31), (1, .int x0_1), (2, .int x0_2), (3, .int x0_3), (5, .int x0_5)]) (S' := [.int (Int32.ofNat (sW h1 102).length), .int x0_5, .int x0_3, .ref 31]) (h' := h1) rfl).trans ?_
  refine (es_cV (b := true) (k' := 79) (pc' := 332) (as := [.ref 31, .int x0_3, .int x0_5, .int (Int32.ofNat (sW h1 102).length)]) (S' := []) (L' := [(0, .ref 31), (1, .int x0_1), (2, .int x0_2), (3, .int x0_3), (5, .int x0_5)]) (h' := h1) rfl rfl rfl rfl rfl).trans (kV_cg fun h2 => ?_)
  refine (es_st 3 (pc' := 338) (L' := [(0, .ref 31), (1, .int x0_1), (2, .int x0_2), (3, .int x0_3), (5, .int x0_5)]) (S' := [.int (59 : Int32), .ref 27]) (h' := h2) rfl).trans ?_
  refine (es_cV (b := true) (k' := 44) (pc' := 341) (as := [.ref 27, .int (59 : Int32)]) (S' := []) (L' := [(0, .ref 31), (1, .int x0_1), (2, .int x0_2), (3, .int x0_3), (5, .int x0_5)]) (h' := h2) rfl rfl rfl rfl rfl).trans (kV_cg fun h3 => ?_)
  exact es_fin rfl rfl rfl
theorem sX3_instance_0 (d : Nat) (hd : 4 ≤ d) (h : SG) : mS true d 84 [.ref 31] h = if (sF h 31 2) = 0 then evS true d 84 77 [(0, .ref 31), (1, .int (-1 : Int32))] [] h else kI (mS true (d - 1) 131 [.ref 93, .ref 30, .int (sF h 27 7), .int ((sF h 27 8) - (sF h 27 7))] h) (fun x2 h1 => if x2 = (-1 : Int32) then kV (mS true (d - 1) 49 [.ref 31, .int (0 : Int32), .int (22 : Int32), .int (sF h1 27 7)] h1) (fun h3 => evS true d 84 77 [(0, .ref 31), (1, .int x2)] [] h3) else if (sF h1 31 3) ≤ x2 then kV (mS true (d - 1) 49 [.ref 31, .int (0 : Int32), .int (22 : Int32), .int (sF h1 27 7)] h1) (fun h4 => evS true d 84 77 [(0, .ref 31), (1, .int x2)] [] h4) else kV (mS true (d - 1) 49 [.ref 31, .int (1 : Int32), .int (22 : Int32), .int (sF h1 27 7)] h1) (fun h5 => evS true d 84 77 [(0, .ref 31), (1, .int x2)] [] h5)) := by
  obtain ⟨d, rfl⟩ : ∃ e, d = e + 4 := ⟨d - 4, by omega⟩
  show evS true (d + 4) 84 0 [(0, .ref 31)] [] h = _
  refine (es_st 4 (pc' := 6) (L' := [(1, .int (-1 : Int32)), (0, .ref 31)]) (S' := [.int (sF h 31 2)]) (h' := h) rfl).trans ?_
  refine (zs_eq (t := 77) rfl rfl rfl).trans (if_cg ?_ ?_)
  · exact es_cut rfl rfl rfl
  · refine (es_st 15 (pc' := 42) (L' := [(1, .int (-1 : Int32)), (0, .ref 31)]) (S' := [.int ((sF h 27 8) - (sF h 27 7)), .int (sF h 27 7), .ref 30, .ref 93]) (h' := h) rfl).trans ?_
    refine (es_cI (b := true) (k' := 131) (pc' := 45) (as := [.ref 93, .ref 30, .int (sF h 27 7), .int ((sF h 27 8) - (sF h 27 7))]) (S' := []) (L' := [(1, .int (-1 : Int32)), (0, .ref 31)]) (h' := h) rfl rfl rfl rfl rfl).trans (kI_cg fun x2 h1 => ?_)
    refine (es_st 4 (pc' := 49) (L' := [(1, .int x2), (0, .ref 31)]) (S' := [.int (-1 : Int32), .int x2, .ref 31]) (h' := h1) rfl).trans ?_
    refine (is_eq (t := 64) rfl rfl rfl).trans (if_cg ?_ ?_)
    · refine (es_st 5 (pc' := 74) (L' := [(1, .int x2), (0, .ref 31)]) (S' := [.int (sF h1 27 7), .int (22 : Int32), .int (0 : Int32), .ref 31]) (h' := h1) rfl).trans ?_
      refine (es_cV (b := true) (k' := 49) (pc' := 77) (as := [.ref 31, .int (0 : Int32), .int (22 : Int32), .int (sF h1 27 7)]) (S' := []) (L' := [(1, .int x2), (0, .ref 31)]) (h' := h1) rfl rfl rfl rfl rfl).trans (kV_cg fun h3 => ?_)
      exact es_cut rfl rfl rfl
    · refine (es_st 3 (pc' := 57) (L' := [(1, .int x2), (0, .ref 31)]) (S' := [.int (sF h1 31 3), .int x2, .ref 31]) (h' := h1) rfl).trans ?_
      refine (is_ge (t := 64) rfl rfl rfl).trans (if_cg ?_ ?_)
      · refine (es_st 5 (pc' := 74) (L' := [(1, .int x2), (0, .ref 31)]) (S' := [.int (sF h1 27 7), .int (22 : Int32), .int (0 : Int32), .ref 31]) (h' := h1) rfl).trans ?_
        refine (es_cV (b := true) (k' := 49) (pc' := 77) (as := [.ref 31, .int (0 : Int32), .int (22 : Int32), .int (sF h1 27 7)]) (S' := []) (L' := [(1, .int x2), (0, .ref 31)]) (h' := h1) rfl rfl rfl rfl rfl).trans (kV_cg fun h4 => ?_)
        exact es_cut rfl rfl rfl
      · refine (es_st 6 (pc' := 74) (L' := [(1, .int x2), (0, .ref 31)]) (S' := [.int (sF h1 27 7), .int (22 : Int32), .int (1 : Int32), .ref 31]) (h' := h1) rfl).trans ?_
        refine (es_cV (b := true) (k' := 49) (pc' := 77) (as := [.ref 31, .int (1 : Int32), .int (22 : Int32), .int (sF h1 27 7)]) (S' := []) (L' := [(1, .int x2), (0, .ref 31)]) (h' := h1) rfl rfl rfl rfl rfl).trans (kV_cg fun h5 => ?_)
        exact es_cut rfl rfl rfl
theorem sX3_instance_77 (d : Nat) (hd : 4 ≤ d) (h : SG) (x0_1 : Int32) : evS true d 84 77 [(0, .ref 31), (1, .int x0_1)] [] h = kV (mS true (d - 1) 30 [.ref 27] h) (fun h1 => kI (mS true (d - 1) 55 [.ref 31, .int (5 : Int32), .int (0 : Int32)] h1) (fun x3 h2 => if (sF h2 31 2) = 0 then evS true d 84 124 [(0, .ref 31), (1, .int x0_1), (2, .int (sF h1 27 7)), (3, .int x3)] [] h2 else ob (rSet h2 94 (((8 : Int32) * x3) + (7 : Int32)) x0_1) (fun h4 => evS true d 84 124 [(0, .ref 31), (1, .int x0_1), (2, .int (sF h1 27 7)), (3, .int x3)] [] h4))) := by
  obtain ⟨d, rfl⟩ : ∃ e, d = e + 4 := ⟨d - 4, by omega⟩
  refine (es_st 2 (pc' := 81) (L' := [(0, .ref 31), (1, .int x0_1)]) (S' := [.ref 27]) (h' := h) rfl).trans ?_
  refine (es_cV (b := true) (k' := 30) (pc' := 84) (as := [.ref 27]) (S' := []) (L' := [(0, .ref 31), (1, .int x0_1)]) (h' := h) rfl rfl rfl rfl rfl).trans (kV_cg fun h1 => ?_)
  refine (es_st 7 (pc' := 95) (L' := [(2, .int (sF h1 27 7)), (0, .ref 31), (1, .int x0_1)]) (S' := [.int (0 : Int32), .int (5 : Int32), .ref 31]) (h' := h1) rfl).trans ?_
  refine (es_cI (b := true) (k' := 55) (pc' := 98) (as := [.ref 31, .int (5 : Int32), .int (0 : Int32)]) (S' := []) (L' := [(2, .int (sF h1 27 7)), (0, .ref 31), (1, .int x0_1)]) (h' := h1) rfl rfl rfl rfl rfl).trans (kI_cg fun x3 h2 => ?_)
  refine (es_st 3 (pc' := 103) (L' := [(3, .int x3), (2, .int (sF h1 27 7)), (0, .ref 31), (1, .int x0_1)]) (S' := [.int (sF h2 31 2)]) (h' := h2) rfl).trans ?_
  refine (zs_eq (t := 124) rfl rfl rfl).trans (if_cg ?_ ?_)
  · exact es_cut rfl rfl rfl
  · refine (es_st 9 (pc' := 121) (L' := [(3, .int x3), (2, .int (sF h1 27 7)), (0, .ref 31), (1, .int x0_1)]) (S' := [.int x0_1, .int (((8 : Int32) * x3) + (7 : Int32)), .ref 94]) (h' := h2) rfl).trans ?_
    refine (es_ob (o := rSet h2 94 (((8 : Int32) * x3) + (7 : Int32)) x0_1) (pc' := 124) (L' := [(3, .int x3), (2, .int (sF h1 27 7)), (0, .ref 31), (1, .int x0_1)]) (S' := fun z => []) (h' := fun z => z) rfl rfl rfl).trans (ob_cg fun h4 => ?_)
    exact es_cut rfl rfl rfl
theorem sX3_instance_124 (d : Nat) (hd : 4 ≤ d) (h : SG) (x0_1 : Int32) (x0_2 : Int32) (x0_3 : Int32) : evS true d 84 124 [(0, .ref 31), (1, .int x0_1), (2, .int x0_2), (3, .int x0_3)] [] h = if (sF h 31 2) = 0 then evS true d 84 160 [(0, .ref 31), (1, .int x0_1), (2, .int x0_2), (3, .int x0_3), (4, .int (Int32.ofNat (sW h 100).length)), (5, .int (0 : Int32)), (6, .int (0 : Int32))] [] h else kI (mS true (d - 1) 141 [.ref 93, .int x0_1] h) (fun x2 h1 => evS true d 84 160 [(0, .ref 31), (1, .int x0_1), (2, .int x0_2), (3, .int x0_3), (4, .int (Int32.ofNat (sW h 100).length)), (5, .int x2), (6, .int (0 : Int32))] [] h1) := by
  obtain ⟨d, rfl⟩ : ∃ e, d = e + 4 := ⟨d - 4, by omega⟩
  refine (es_st 7 (pc' := 140) (L' := [(4, .int (Int32.ofNat (sW h 100).length)), (0, .ref 31), (1, .int x0_1), (2, .int x0_2), (3, .int x0_3)]) (S' := [.int (sF h 31 2)]) (h' := h) rfl).trans ?_
  refine (zs_eq (t := 154) rfl rfl rfl).trans (if_cg ?_ ?_)
  · refine (es_st 4 (pc' := 160) (L' := [(6, .int (0 : Int32)), (5, .int (0 : Int32)), (4, .int (Int32.ofNat (sW h 100).length)), (0, .ref 31), (1, .int x0_1), (2, .int x0_2), (3, .int x0_3)]) (S' := []) (h' := h) rfl).trans ?_
    exact es_cut rfl rfl rfl
  · refine (es_st 3 (pc' := 148) (L' := [(4, .int (Int32.ofNat (sW h 100).length)), (0, .ref 31), (1, .int x0_1), (2, .int x0_2), (3, .int x0_3)]) (S' := [.int x0_1, .ref 93]) (h' := h) rfl).trans ?_
    refine (es_cI (b := true) (k' := 141) (pc' := 151) (as := [.ref 93, .int x0_1]) (S' := []) (L' := [(4, .int (Int32.ofNat (sW h 100).length)), (0, .ref 31), (1, .int x0_1), (2, .int x0_2), (3, .int x0_3)]) (h' := h) rfl rfl rfl rfl rfl).trans (kI_cg fun x2 h1 => ?_)
    refine (es_st 4 (pc' := 160) (L' := [(6, .int (0 : Int32)), (5, .int x2), (4, .int (Int32.ofNat (sW h 100).length)), (0, .ref 31), (1, .int x0_1), (2, .int x0_2), (3, .int x0_3)]) (S' := []) (h' := h1) rfl).trans ?_
    exact es_cut rfl rfl rfl
theorem sX3_instance_160 (d : Nat) (hd : 4 ≤ d) (h : SG) (x0_1 : Int32) (x0_2 : Int32) (x0_3 : Int32) (x0_4 : Int32) (x0_5 : Int32) (x0_6 : Int32) : evS true d 84 160 [(0, .ref 31), (1, .int x0_1), (2, .int x0_2), (3, .int x0_3), (4, .int x0_4), (5, .int x0_5), (6, .int x0_6)] [] h = if ((3 : Int32) * x0_5) ≤ x0_6 then if (sF h 27 6) = (40 : Int32) then evS true d 84 206 [(0, .ref 31), (1, .int x0_1), (2, .int x0_2), (3, .int x0_3), (4, .int x0_4), (5, .int x0_5)] [.int (1 : Int32), .ref 31] h else evS true d 84 206 [(0, .ref 31), (1, .int x0_1), (2, .int x0_2), (3, .int x0_3), (4, .int x0_4), (5, .int x0_5)] [.int (0 : Int32), .ref 31] h else ob (rAdd h 100 (-2 : Int32)) (fun q1 => evS true d 84 160 [(0, .ref 31), (1, .int x0_1), (2, .int x0_2), (3, .int x0_3), (4, .int x0_4), (5, .int x0_5), (6, .int (x0_6 + (1 : Int32)))] [] q1.2) := by
  obtain ⟨d, rfl⟩ : ∃ e, d = e + 4 := ⟨d - 4, by omega⟩
  refine (es_st 4 (pc' := 166) (L' := [(0, .ref 31), (1, .int x0_1), (2, .int x0_2), (3, .int x0_3), (4, .int x0_4), (5, .int x0_5), (6, .int x0_6)]) (S' := [.int ((3 : Int32) * x0_5), .int x0_6]) (h' := h) rfl).trans ?_
  refine (is_ge (t := 188) rfl rfl rfl).trans (if_cg ?_ ?_)
  · refine (es_st 5 (pc' := 198) (L' := [(0, .ref 31), (1, .int x0_1), (2, .int x0_2), (3, .int x0_3), (4, .int x0_4), (5, .int x0_5), (6, .int x0_6)]) (S' := [.int (40 : Int32), .int (sF h 27 6), .ref 31]) (h' := h) rfl).trans ?_
    refine (is_ne (t := 205) rfl rfl rfl).trans (if_cg ?_ ?_)
    · refine (es_st 2 (pc' := 206) (L' := [(0, .ref 31), (1, .int x0_1), (2, .int x0_2), (3, .int x0_3), (4, .int x0_4), (5, .int x0_5), (6, .int x0_6)]) (S' := [.int (1 : Int32), .ref 31]) (h' := h) rfl).trans ?_
      exact es_cut rfl rfl rfl
    · refine (es_st 1 (pc' := 206) (L' := [(0, .ref 31), (1, .int x0_1), (2, .int x0_2), (3, .int x0_3), (4, .int x0_4), (5, .int x0_5), (6, .int x0_6)]) (S' := [.int (0 : Int32), .ref 31]) (h' := h) rfl).trans ?_
      exact es_cut rfl rfl rfl
  · refine (es_st 4 (pc' := 178) (L' := [(0, .ref 31), (1, .int x0_1), (2, .int x0_2), (3, .int x0_3), (4, .int x0_4), (5, .int x0_5), (6, .int x0_6)]) (S' := [.int (-2 : Int32), .ref 100]) (h' := h) rfl).trans ?_
    refine (es_ob (o := rAdd h 100 (-2 : Int32)) (pc' := 181) (L' := [(0, .ref 31), (1, .int x0_1), (2, .int x0_2), (3, .int x0_3), (4, .int x0_4), (5, .int x0_5), (6, .int x0_6)]) (S' := fun z => [.int z.1]) (h' := fun z => z.2) rfl rfl rfl).trans (ob_cg fun q1 => ?_)
    refine (es_st 3 (pc' := 160) (L' := [(6, .int (x0_6 + (1 : Int32))), (0, .ref 31), (1, .int x0_1), (2, .int x0_2), (3, .int x0_3), (4, .int x0_4), (5, .int x0_5)]) (S' := []) (h' := q1.2) rfl).trans ?_
    exact es_cut rfl rfl rfl
theorem sX3_instance_206 (d : Nat) (hd : 4 ≤ d) (h : SG) (x0_1 : Int32) (x0_2 : Int32) (x0_3 : Int32) (x0_4 : Int32) (x0_5 : Int32) (s0 : Int32) : evS true d 84 206 [(0, .ref 31), (1, .int x0_1), (2, .int x0_2), (3, .int x0_3), (4, .int x0_4), (5, .int x0_5)] [.int s0, .ref 31] h = kV (mS true (d - 1) 49 [.ref 31, .int s0, .int (2 : Int32), .int (sF h 27 7)] h) (fun h1 => kV (mS true (d - 1) 69 [.ref 31] h1) (fun h2 => kV (mS true (d - 1) 30 [.ref 27] h2) (fun h3 => if (sF h3 27 6) = (41 : Int32) then kV (mS true (d - 1) 44 [.ref 27, .int (41 : Int32)] (uF h3 31 4 ((sF h3 31 4) - (1 : Int32)))) (fun h4 => evS true d 84 291 [(0, .ref 31), (2, .int x0_2), (3, .int x0_3), (4, .int x0_4), (5, .int x0_5), (6, .int (0 : Int32))] [] h4) else kV (mS true (d - 1) 85 [.ref 31, .int x0_1, .int x0_4] h3) (fun h5 => evS true d 84 247 [(0, .ref 31), (1, .int x0_1), (2, .int x0_2), (3, .int x0_3), (4, .int x0_4), (5, .int x0_5)] [] h5)))) := by
  obtain ⟨d, rfl⟩ : ∃ e, d = e + 4 := ⟨d - 4, by omega⟩
  refine (es_st 4 (pc' := 214) (L' := [(0, .ref 31), (1, .int x0_1), (2, .int x0_2), (3, .int x0_3), (4, .int x0_4), (5, .int x0_5)]) (S' := [.int (sF h 27 7), .int (2 : Int32), .int s0, .ref 31]) (h' := h) rfl).trans ?_
  refine (es_cV (b := true) (k' := 49) (pc' := 217) (as := [.ref 31, .int s0, .int (2 : Int32), .int (sF h 27 7)]) (S' := []) (L' := [(0, .ref 31), (1, .int x0_1), (2, .int x0_2), (3, .int x0_3), (4, .int x0_4), (5, .int x0_5)]) (h' := h) rfl rfl rfl rfl rfl).trans (kV_cg fun h1 => ?_)
  refine (es_st 1 (pc' := 218) (L' := [(0, .ref 31), (1, .int x0_1), (2, .int x0_2), (3, .int x0_3), (4, .int x0_4), (5, .int x0_5)]) (S' := [.ref 31]) (h' := h1) rfl).trans ?_
  refine (es_cV (b := true) (k' := 69) (pc' := 221) (as := [.ref 31]) (S' := []) (L' := [(0, .ref 31), (1, .int x0_1), (2, .int x0_2), (3, .int x0_3), (4, .int x0_4), (5, .int x0_5)]) (h' := h1) rfl rfl rfl rfl rfl).trans (kV_cg fun h2 => ?_)
  refine (es_st 2 (pc' := 225) (L' := [(0, .ref 31), (1, .int x0_1), (2, .int x0_2), (3, .int x0_3), (4, .int x0_4), (5, .int x0_5)]) (S' := [.ref 27]) (h' := h2) rfl).trans ?_
  refine (es_cV (b := true) (k' := 30) (pc' := 228) (as := [.ref 27]) (S' := []) (L' := [(0, .ref 31), (1, .int x0_1), (2, .int x0_2), (3, .int x0_3), (4, .int x0_4), (5, .int x0_5)]) (h' := h2) rfl rfl rfl rfl rfl).trans (kV_cg fun h3 => ?_)
  refine (es_st 4 (pc' := 237) (L' := [(0, .ref 31), (1, .int x0_1), (2, .int x0_2), (3, .int x0_3), (4, .int x0_4), (5, .int x0_5)]) (S' := [.int (41 : Int32), .int (sF h3 27 6)]) (h' := h3) rfl).trans ?_
  refine (is_eq (t := 269) rfl rfl rfl).trans (if_cg ?_ ?_)
  · refine (es_st 9 (pc' := 285) (L' := [(0, .ref 31), (1, .int x0_1), (2, .int x0_2), (3, .int x0_3), (4, .int x0_4), (5, .int x0_5)]) (S' := [.int (41 : Int32), .ref 27]) (h' := (uF h3 31 4 ((sF h3 31 4) - (1 : Int32)))) rfl).trans ?_
    refine (es_cV (b := true) (k' := 44) (pc' := 288) (as := [.ref 27, .int (41 : Int32)]) (S' := []) (L' := [(0, .ref 31), (1, .int x0_1), (2, .int x0_2), (3, .int x0_3), (4, .int x0_4), (5, .int x0_5)]) (h' := (uF h3 31 4 ((sF h3 31 4) - (1 : Int32)))) rfl rfl rfl rfl rfl).trans (kV_cg fun h4 => ?_)
    refine (es_st 2 (pc' := 291) (L' := [(6, .int (0 : Int32)), (0, .ref 31), (1, .int x0_1), (2, .int x0_2), (3, .int x0_3), (4, .int x0_4), (5, .int x0_5)]) (S' := []) (h' := h4) rfl).trans ?_
    exact es_cut rfl rfl rfl
  · refine (es_st 3 (pc' := 244) (L' := [(0, .ref 31), (1, .int x0_1), (2, .int x0_2), (3, .int x0_3), (4, .int x0_4), (5, .int x0_5)]) (S' := [.int x0_4, .int x0_1, .ref 31]) (h' := h3) rfl).trans ?_
    refine (es_cV (b := true) (k' := 85) (pc' := 247) (as := [.ref 31, .int x0_1, .int x0_4]) (S' := []) (L' := [(0, .ref 31), (1, .int x0_1), (2, .int x0_2), (3, .int x0_3), (4, .int x0_4), (5, .int x0_5)]) (h' := h3) rfl rfl rfl rfl rfl).trans (kV_cg fun h5 => ?_)
    exact es_cut rfl rfl rfl
theorem sX3_instance_247 (d : Nat) (hd : 4 ≤ d) (h : SG) (x0_1 : Int32) (x0_2 : Int32) (x0_3 : Int32) (x0_4 : Int32) (x0_5 : Int32) : evS true d 84 247 [(0, .ref 31), (1, .int x0_1), (2, .int x0_2), (3, .int x0_3), (4, .int x0_4), (5, .int x0_5)] [] h = kI (mS true (d - 1) 45 [.ref 27, .int (44 : Int32)] h) (fun x2 h1 => if x2 = 0 then kV (mS true (d - 1) 44 [.ref 27, .int (41 : Int32)] (uF h1 31 4 ((sF h1 31 4) - (1 : Int32)))) (fun h3 => evS true d 84 291 [(0, .ref 31), (2, .int x0_2), (3, .int x0_3), (4, .int x0_4), (5, .int x0_5), (6, .int (0 : Int32))] [] h3) else kV (mS true (d - 1) 85 [.ref 31, .int x0_1, .int x0_4] h1) (fun h4 => evS true d 84 247 [(0, .ref 31), (1, .int x0_1), (2, .int x0_2), (3, .int x0_3), (4, .int x0_4), (5, .int x0_5)] [] h4)) := by
  obtain ⟨d, rfl⟩ : ∃ e, d = e + 4 := ⟨d - 4, by omega⟩
  refine (es_st 3 (pc' := 253) (L' := [(0, .ref 31), (1, .int x0_1), (2, .int x0_2), (3, .int x0_3), (4, .int x0_4), (5, .int x0_5)]) (S' := [.int (44 : Int32), .ref 27]) (h' := h) rfl).trans ?_
  refine (es_cI (b := true) (k' := 45) (pc' := 256) (as := [.ref 27, .int (44 : Int32)]) (S' := []) (L' := [(0, .ref 31), (1, .int x0_1), (2, .int x0_2), (3, .int x0_3), (4, .int x0_4), (5, .int x0_5)]) (h' := h) rfl rfl rfl rfl rfl).trans (kI_cg fun x2 h1 => ?_)
  refine (zs_eq (t := 269) rfl rfl rfl).trans (if_cg ?_ ?_)
  · refine (es_st 9 (pc' := 285) (L' := [(0, .ref 31), (1, .int x0_1), (2, .int x0_2), (3, .int x0_3), (4, .int x0_4), (5, .int x0_5)]) (S' := [.int (41 : Int32), .ref 27]) (h' := (uF h1 31 4 ((sF h1 31 4) - (1 : Int32)))) rfl).trans ?_
    refine (es_cV (b := true) (k' := 44) (pc' := 288) (as := [.ref 27, .int (41 : Int32)]) (S' := []) (L' := [(0, .ref 31), (1, .int x0_1), (2, .int x0_2), (3, .int x0_3), (4, .int x0_4), (5, .int x0_5)]) (h' := (uF h1 31 4 ((sF h1 31 4) - (1 : Int32)))) rfl rfl rfl rfl rfl).trans (kV_cg fun h3 => ?_)
    refine (es_st 2 (pc' := 291) (L' := [(6, .int (0 : Int32)), (0, .ref 31), (1, .int x0_1), (2, .int x0_2), (3, .int x0_3), (4, .int x0_4), (5, .int x0_5)]) (S' := []) (h' := h3) rfl).trans ?_
    exact es_cut rfl rfl rfl
  · refine (es_st 3 (pc' := 263) (L' := [(0, .ref 31), (1, .int x0_1), (2, .int x0_2), (3, .int x0_3), (4, .int x0_4), (5, .int x0_5)]) (S' := [.int x0_4, .int x0_1, .ref 31]) (h' := h1) rfl).trans ?_
    refine (es_cV (b := true) (k' := 85) (pc' := 266) (as := [.ref 31, .int x0_1, .int x0_4]) (S' := []) (L' := [(0, .ref 31), (1, .int x0_1), (2, .int x0_2), (3, .int x0_3), (4, .int x0_4), (5, .int x0_5)]) (h' := h1) rfl rfl rfl rfl rfl).trans (kV_cg fun h4 => ?_)
    refine (es_st 1 (pc' := 247) (L' := [(0, .ref 31), (1, .int x0_1), (2, .int x0_2), (3, .int x0_3), (4, .int x0_4), (5, .int x0_5)]) (S' := []) (h' := h4) rfl).trans ?_
    exact es_cut rfl rfl rfl
theorem sX3_instance_291 (d : Nat) (hd : 4 ≤ d) (h : SG) (x0_2 : Int32) (x0_3 : Int32) (x0_4 : Int32) (x0_5 : Int32) (x0_6 : Int32) : evS true d 84 291 [(0, .ref 31), (2, .int x0_2), (3, .int x0_3), (4, .int x0_4), (5, .int x0_5), (6, .int x0_6)] [] h = if x0_5 ≤ x0_6 then kV (mS true (d - 1) 44 [.ref 27, .int (59 : Int32)] h) (fun h1 => kV (mS true (d - 1) 76 [.ref 31, .int (2 : Int32), .int x0_3, .int x0_4, .int (0 : Int32)] h1) (fun h2 => some (.inl none, h2))) else if (sF h 27 6) = (59 : Int32) then ob (rAt h 100 (x0_4 + ((3 : Int32) * x0_6))) (fun x5 => if x5 = (-2 : Int32) then kV (mS true (d - 1) 49 [.ref 31, .int (0 : Int32), .int (24 : Int32), .int x0_2] h) (fun h6 => evS true d 84 291 [(0, .ref 31), (2, .int x0_2), (3, .int x0_3), (4, .int x0_4), (5, .int x0_5), (6, .int (x0_6 + (1 : Int32)))] [] h6) else kV (mS true (d - 1) 49 [.ref 31, .int (1 : Int32), .int (24 : Int32), .int x0_2] h) (fun h7 => evS true d 84 291 [(0, .ref 31), (2, .int x0_2), (3, .int x0_3), (4, .int x0_4), (5, .int x0_5), (6, .int (x0_6 + (1 : Int32)))] [] h7)) else kV (mS true (d - 1) 44 [.ref 27, .int (59 : Int32)] h) (fun h3 => kV (mS true (d - 1) 76 [.ref 31, .int (2 : Int32), .int x0_3, .int x0_4, .int (0 : Int32)] h3) (fun h4 => some (.inl none, h4))) := by
  obtain ⟨d, rfl⟩ : ∃ e, d = e + 4 := ⟨d - 4, by omega⟩
  refine (es_st 2 (pc' := 295) (L' := [(0, .ref 31), (2, .int x0_2), (3, .int x0_3), (4, .int x0_4), (5, .int x0_5), (6, .int x0_6)]) (S' := [.int x0_5, .int x0_6]) (h' := h) rfl).trans ?_
  refine (is_ge (t := 350) rfl rfl rfl).trans (if_cg ?_ ?_)
  · refine (es_st 3 (pc' := 356) (L' := [(0, .ref 31), (2, .int x0_2), (3, .int x0_3), (4, .int x0_4), (5, .int x0_5), (6, .int x0_6)]) (S' := [.int (59 : Int32), .ref 27]) (h' := h) rfl).trans ?_
    refine (es_cV (b := true) (k' := 44) (pc' := 359) (as := [.ref 27, .int (59 : Int32)]) (S' := []) (L' := [(0, .ref 31), (2, .int x0_2), (3, .int x0_3), (4, .int x0_4), (5, .int x0_5), (6, .int x0_6)]) (h' := h) rfl rfl rfl rfl rfl).trans (kV_cg fun h1 => ?_)
    refine (es_st 5 (pc' := 365) (L' := [(0, .ref 31), (2, .int x0_2), (3, .int x0_3), (4, .int x0_4), (5, .int x0_5), (6, .int x0_6)]) (S' := [.int (0 : Int32), .int x0_4, .int x0_3, .int (2 : Int32), .ref 31]) (h' := h1) rfl).trans ?_
    refine (es_cV (b := true) (k' := 76) (pc' := 368) (as := [.ref 31, .int (2 : Int32), .int x0_3, .int x0_4, .int (0 : Int32)]) (S' := []) (L' := [(0, .ref 31), (2, .int x0_2), (3, .int x0_3), (4, .int x0_4), (5, .int x0_5), (6, .int x0_6)]) (h' := h1) rfl rfl rfl rfl rfl).trans (kV_cg fun h2 => ?_)
    exact es_fin rfl rfl rfl
  · refine (es_st 4 (pc' := 307) (L' := [(0, .ref 31), (2, .int x0_2), (3, .int x0_3), (4, .int x0_4), (5, .int x0_5), (6, .int x0_6)]) (S' := [.int (59 : Int32), .int (sF h 27 6)]) (h' := h) rfl).trans ?_
    refine (is_ne (t := 350) rfl rfl rfl).trans (if_cg ?_ ?_)
    · refine (es_st 9 (pc' := 325) (L' := [(0, .ref 31), (2, .int x0_2), (3, .int x0_3), (4, .int x0_4), (5, .int x0_5), (6, .int x0_6)]) (S' := [.int (x0_4 + ((3 : Int32) * x0_6)), .ref 100, .ref 31]) (h' := h) rfl).trans ?_
      refine (es_ob (o := rAt h 100 (x0_4 + ((3 : Int32) * x0_6))) (pc' := 328) (L' := [(0, .ref 31), (2, .int x0_2), (3, .int x0_3), (4, .int x0_4), (5, .int x0_5), (6, .int x0_6)]) (S' := fun z => [.int z, .ref 31]) (h' := fun z => h) rfl rfl rfl).trans (ob_cg fun x5 => ?_)
      refine (es_st 1 (pc' := 330) (L' := [(0, .ref 31), (2, .int x0_2), (3, .int x0_3), (4, .int x0_4), (5, .int x0_5), (6, .int x0_6)]) (S' := [.int (-2 : Int32), .int x5, .ref 31]) (h' := h) rfl).trans ?_
      refine (is_eq (t := 337) rfl rfl rfl).trans (if_cg ?_ ?_)
      · refine (es_st 3 (pc' := 341) (L' := [(0, .ref 31), (2, .int x0_2), (3, .int x0_3), (4, .int x0_4), (5, .int x0_5), (6, .int x0_6)]) (S' := [.int x0_2, .int (24 : Int32), .int (0 : Int32), .ref 31]) (h' := h) rfl).trans ?_
        refine (es_cV (b := true) (k' := 49) (pc' := 344) (as := [.ref 31, .int (0 : Int32), .int (24 : Int32), .int x0_2]) (S' := []) (L' := [(0, .ref 31), (2, .int x0_2), (3, .int x0_3), (4, .int x0_4), (5, .int x0_5), (6, .int x0_6)]) (h' := h) rfl rfl rfl rfl rfl).trans (kV_cg fun h6 => ?_)
        refine (es_st 2 (pc' := 291) (L' := [(6, .int (x0_6 + (1 : Int32))), (0, .ref 31), (2, .int x0_2), (3, .int x0_3), (4, .int x0_4), (5, .int x0_5)]) (S' := []) (h' := h6) rfl).trans ?_
        exact es_cut rfl rfl rfl
      · refine (es_st 4 (pc' := 341) (L' := [(0, .ref 31), (2, .int x0_2), (3, .int x0_3), (4, .int x0_4), (5, .int x0_5), (6, .int x0_6)]) (S' := [.int x0_2, .int (24 : Int32), .int (1 : Int32), .ref 31]) (h' := h) rfl).trans ?_
        refine (es_cV (b := true) (k' := 49) (pc' := 344) (as := [.ref 31, .int (1 : Int32), .int (24 : Int32), .int x0_2]) (S' := []) (L' := [(0, .ref 31), (2, .int x0_2), (3, .int x0_3), (4, .int x0_4), (5, .int x0_5), (6, .int x0_6)]) (h' := h) rfl rfl rfl rfl rfl).trans (kV_cg fun h7 => ?_)
        refine (es_st 2 (pc' := 291) (L' := [(6, .int (x0_6 + (1 : Int32))), (0, .ref 31), (2, .int x0_2), (3, .int x0_3), (4, .int x0_4), (5, .int x0_5)]) (S' := []) (h' := h7) rfl).trans ?_
        exact es_cut rfl rfl rfl
    · refine (es_st 3 (pc' := 356) (L' := [(0, .ref 31), (2, .int x0_2), (3, .int x0_3), (4, .int x0_4), (5, .int x0_5), (6, .int x0_6)]) (S' := [.int (59 : Int32), .ref 27]) (h' := h) rfl).trans ?_
      refine (es_cV (b := true) (k' := 44) (pc' := 359) (as := [.ref 27, .int (59 : Int32)]) (S' := []) (L' := [(0, .ref 31), (2, .int x0_2), (3, .int x0_3), (4, .int x0_4), (5, .int x0_5), (6, .int x0_6)]) (h' := h) rfl rfl rfl rfl rfl).trans (kV_cg fun h3 => ?_)
      refine (es_st 5 (pc' := 365) (L' := [(0, .ref 31), (2, .int x0_2), (3, .int x0_3), (4, .int x0_4), (5, .int x0_5), (6, .int x0_6)]) (S' := [.int (0 : Int32), .int x0_4, .int x0_3, .int (2 : Int32), .ref 31]) (h' := h3) rfl).trans ?_
      refine (es_cV (b := true) (k' := 76) (pc' := 368) (as := [.ref 31, .int (2 : Int32), .int x0_3, .int x0_4, .int (0 : Int32)]) (S' := []) (L' := [(0, .ref 31), (2, .int x0_2), (3, .int x0_3), (4, .int x0_4), (5, .int x0_5), (6, .int x0_6)]) (h' := h3) rfl rfl rfl rfl rfl).trans (kV_cg fun h4 => ?_)
      exact es_fin rfl rfl rfl
theorem sX3_link_0 (d : Nat) (hd : 4 ≤ d) (h : SG) (x0_1 : Int32) (x0_2 : Int32) : mS true d 85 [.ref 31, .int x0_1, .int x0_2] h = kV (mS true (d - 1) 44 [.ref 27, .int (46 : Int32)] h) (fun h1 => if (sF h1 27 6) = (257 : Int32) then evS true d 85 36 [(0, .ref 31), (1, .int x0_1), (2, .int x0_2), (3, .int (sF h 27 7))] [.int (1 : Int32), .ref 31] h1 else evS true d 85 36 [(0, .ref 31), (1, .int x0_1), (2, .int x0_2), (3, .int (sF h 27 7))] [.int (0 : Int32), .ref 31] h1) := by
  obtain ⟨d, rfl⟩ : ∃ e, d = e + 4 := ⟨d - 4, by omega⟩
  show evS true (d + 4) 85 0 [(0, .ref 31), (1, .int x0_1), (2, .int x0_2)] [] h = _
  refine (es_st 7 (pc' := 14) (L' := [(3, .int (sF h 27 7)), (0, .ref 31), (1, .int x0_1), (2, .int x0_2)]) (S' := [.int (46 : Int32), .ref 27]) (h' := h) rfl).trans ?_
  refine (es_cV (b := true) (k' := 44) (pc' := 17) (as := [.ref 27, .int (46 : Int32)]) (S' := []) (L' := [(3, .int (sF h 27 7)), (0, .ref 31), (1, .int x0_1), (2, .int x0_2)]) (h' := h) rfl rfl rfl rfl rfl).trans (kV_cg fun h1 => ?_)
  refine (es_st 5 (pc' := 28) (L' := [(3, .int (sF h 27 7)), (0, .ref 31), (1, .int x0_1), (2, .int x0_2)]) (S' := [.int (257 : Int32), .int (sF h1 27 6), .ref 31]) (h' := h1) rfl).trans ?_
  refine (is_ne (t := 35) rfl rfl rfl).trans (if_cg ?_ ?_)
  · refine (es_st 2 (pc' := 36) (L' := [(3, .int (sF h 27 7)), (0, .ref 31), (1, .int x0_1), (2, .int x0_2)]) (S' := [.int (1 : Int32), .ref 31]) (h' := h1) rfl).trans ?_
    exact es_cut rfl rfl rfl
  · refine (es_st 1 (pc' := 36) (L' := [(3, .int (sF h 27 7)), (0, .ref 31), (1, .int x0_1), (2, .int x0_2)]) (S' := [.int (0 : Int32), .ref 31]) (h' := h1) rfl).trans ?_
    exact es_cut rfl rfl rfl
theorem sX3_link_36 (d : Nat) (hd : 4 ≤ d) (h : SG) (x0_1 : Int32) (x0_2 : Int32) (x0_3 : Int32) (s0 : Int32) : evS true d 85 36 [(0, .ref 31), (1, .int x0_1), (2, .int x0_2), (3, .int x0_3)] [.int s0, .ref 31] h = kV (mS true (d - 1) 49 [.ref 31, .int s0, .int (2 : Int32), .int (sF h 27 7)] h) (fun h1 => if (sF h1 31 2) = 0 then evS true d 85 177 [(0, .ref 31), (1, .int x0_1), (2, .int x0_2), (3, .int x0_3), (4, .int (-1 : Int32))] [] h1 else kI (mS true (d - 1) 133 [.ref 93, .int x0_1, .ref 30, .int (sF h1 27 7), .int ((sF h1 27 8) - (sF h1 27 7))] h1) (fun x3 h2 => if x3 = (-1 : Int32) then evS true d 85 117 [(0, .ref 31), (1, .int x0_1), (2, .int x0_2), (3, .int x0_3), (4, .int x3)] [.int (-1 : Int32)] h2 else kI (mS true (d - 1) 134 [.ref 93, .int x0_1] h2) (fun x5 h4 => evS true d 85 117 [(0, .ref 31), (1, .int x0_1), (2, .int x0_2), (3, .int x0_3), (4, .int x3)] [.int (x3 - x5)] h4))) := by
  obtain ⟨d, rfl⟩ : ∃ e, d = e + 4 := ⟨d - 4, by omega⟩
  refine (es_st 4 (pc' := 44) (L' := [(0, .ref 31), (1, .int x0_1), (2, .int x0_2), (3, .int x0_3)]) (S' := [.int (sF h 27 7), .int (2 : Int32), .int s0, .ref 31]) (h' := h) rfl).trans ?_
  refine (es_cV (b := true) (k' := 49) (pc' := 47) (as := [.ref 31, .int s0, .int (2 : Int32), .int (sF h 27 7)]) (S' := []) (L' := [(0, .ref 31), (1, .int x0_1), (2, .int x0_2), (3, .int x0_3)]) (h' := h) rfl rfl rfl rfl rfl).trans (kV_cg fun h1 => ?_)
  refine (es_st 4 (pc' := 54) (L' := [(4, .int (-1 : Int32)), (0, .ref 31), (1, .int x0_1), (2, .int x0_2), (3, .int x0_3)]) (S' := [.int (sF h1 31 2)]) (h' := h1) rfl).trans ?_
  refine (zs_eq (t := 177) rfl rfl rfl).trans (if_cg ?_ ?_)
  · exact es_cut rfl rfl rfl
  · refine (es_st 16 (pc' := 91) (L' := [(4, .int (-1 : Int32)), (0, .ref 31), (1, .int x0_1), (2, .int x0_2), (3, .int x0_3)]) (S' := [.int ((sF h1 27 8) - (sF h1 27 7)), .int (sF h1 27 7), .ref 30, .int x0_1, .ref 93]) (h' := h1) rfl).trans ?_
    refine (es_cI (b := true) (k' := 133) (pc' := 94) (as := [.ref 93, .int x0_1, .ref 30, .int (sF h1 27 7), .int ((sF h1 27 8) - (sF h1 27 7))]) (S' := []) (L' := [(4, .int (-1 : Int32)), (0, .ref 31), (1, .int x0_1), (2, .int x0_2), (3, .int x0_3)]) (h' := h1) rfl rfl rfl rfl rfl).trans (kI_cg fun x3 h2 => ?_)
    refine (es_st 3 (pc' := 99) (L' := [(4, .int x3), (0, .ref 31), (1, .int x0_1), (2, .int x0_2), (3, .int x0_3)]) (S' := [.int (-1 : Int32), .int x3]) (h' := h2) rfl).trans ?_
    refine (is_ne (t := 106) rfl rfl rfl).trans (if_cg ?_ ?_)
    · refine (es_st 2 (pc' := 117) (L' := [(4, .int x3), (0, .ref 31), (1, .int x0_1), (2, .int x0_2), (3, .int x0_3)]) (S' := [.int (-1 : Int32)]) (h' := h2) rfl).trans ?_
      exact es_cut rfl rfl rfl
    · refine (es_st 4 (pc' := 113) (L' := [(4, .int x3), (0, .ref 31), (1, .int x0_1), (2, .int x0_2), (3, .int x0_3)]) (S' := [.int x0_1, .ref 93, .int x3]) (h' := h2) rfl).trans ?_
      refine (es_cI (b := true) (k' := 134) (pc' := 116) (as := [.ref 93, .int x0_1]) (S' := [.int x3]) (L' := [(4, .int x3), (0, .ref 31), (1, .int x0_1), (2, .int x0_2), (3, .int x0_3)]) (h' := h2) rfl rfl rfl rfl rfl).trans (kI_cg fun x5 h4 => ?_)
      refine (es_st 1 (pc' := 117) (L' := [(4, .int x3), (0, .ref 31), (1, .int x0_1), (2, .int x0_2), (3, .int x0_3)]) (S' := [.int (x3 - x5)]) (h' := h4) rfl).trans ?_
      exact es_cut rfl rfl rfl
theorem sX3_link_117 (d : Nat) (hd : 4 ≤ d) (h : SG) (x0_1 : Int32) (x0_2 : Int32) (x0_3 : Int32) (x0_4 : Int32) (s0 : Int32) : evS true d 85 117 [(0, .ref 31), (1, .int x0_1), (2, .int x0_2), (3, .int x0_3), (4, .int x0_4)] [.int s0] h = if x0_4 = (-1 : Int32) then kV (mS true (d - 1) 49 [.ref 31, .int (0 : Int32), .int (23 : Int32), .int (sF h 27 7)] h) (fun h1 => evS true d 85 177 [(0, .ref 31), (1, .int x0_1), (2, .int x0_2), (3, .int x0_3), (4, .int x0_4)] [] h1) else kI (mS true (d - 1) 141 [.ref 93, .int x0_1] h) (fun x3 h2 => if x3 ≤ s0 then kV (mS true (d - 1) 49 [.ref 31, .int (0 : Int32), .int (23 : Int32), .int (sF h2 27 7)] h2) (fun h4 => evS true d 85 177 [(0, .ref 31), (1, .int x0_1), (2, .int x0_2), (3, .int x0_3), (4, .int x0_4)] [] h4) else ob (rAt h2 100 (x0_2 + ((3 : Int32) * s0))) (fun x5 => if x5 = (-2 : Int32) then kV (mS true (d - 1) 49 [.ref 31, .int (1 : Int32), .int (23 : Int32), .int (sF h2 27 7)] h2) (fun h7 => evS true d 85 177 [(0, .ref 31), (1, .int x0_1), (2, .int x0_2), (3, .int x0_3), (4, .int x0_4)] [] h7) else kV (mS true (d - 1) 49 [.ref 31, .int (0 : Int32), .int (23 : Int32), .int (sF h2 27 7)] h2) (fun h6 => evS true d 85 177 [(0, .ref 31), (1, .int x0_1), (2, .int x0_2), (3, .int x0_3), (4, .int x0_4)] [] h6))) := by
  obtain ⟨d, rfl⟩ : ∃ e, d = e + 4 := ⟨d - 4, by omega⟩
  refine (es_st 4 (pc' := 123) (L' := [(5, .int s0), (0, .ref 31), (1, .int x0_1), (2, .int x0_2), (3, .int x0_3), (4, .int x0_4)]) (S' := [.int (-1 : Int32), .int x0_4, .ref 31]) (h' := h) rfl).trans ?_
  refine (is_eq (t := 164) rfl rfl rfl).trans (if_cg ?_ ?_)
  · refine (es_st 5 (pc' := 174) (L' := [(5, .int s0), (0, .ref 31), (1, .int x0_1), (2, .int x0_2), (3, .int x0_3), (4, .int x0_4)]) (S' := [.int (sF h 27 7), .int (23 : Int32), .int (0 : Int32), .ref 31]) (h' := h) rfl).trans ?_
    refine (es_cV (b := true) (k' := 49) (pc' := 177) (as := [.ref 31, .int (0 : Int32), .int (23 : Int32), .int (sF h 27 7)]) (S' := []) (L' := [(5, .int s0), (0, .ref 31), (1, .int x0_1), (2, .int x0_2), (3, .int x0_3), (4, .int x0_4)]) (h' := h) rfl rfl rfl rfl rfl).trans (kV_cg fun h1 => ?_)
    exact es_cut rfl rfl rfl
  · refine (es_st 4 (pc' := 133) (L' := [(5, .int s0), (0, .ref 31), (1, .int x0_1), (2, .int x0_2), (3, .int x0_3), (4, .int x0_4)]) (S' := [.int x0_1, .ref 93, .int s0, .ref 31]) (h' := h) rfl).trans ?_
    refine (es_cI (b := true) (k' := 141) (pc' := 136) (as := [.ref 93, .int x0_1]) (S' := [.int s0, .ref 31]) (L' := [(5, .int s0), (0, .ref 31), (1, .int x0_1), (2, .int x0_2), (3, .int x0_3), (4, .int x0_4)]) (h' := h) rfl rfl rfl rfl rfl).trans (kI_cg fun x3 h2 => ?_)
    refine (is_ge (t := 164) rfl rfl rfl).trans (if_cg ?_ ?_)
    · refine (es_st 5 (pc' := 174) (L' := [(5, .int s0), (0, .ref 31), (1, .int x0_1), (2, .int x0_2), (3, .int x0_3), (4, .int x0_4)]) (S' := [.int (sF h2 27 7), .int (23 : Int32), .int (0 : Int32), .ref 31]) (h' := h2) rfl).trans ?_
      refine (es_cV (b := true) (k' := 49) (pc' := 177) (as := [.ref 31, .int (0 : Int32), .int (23 : Int32), .int (sF h2 27 7)]) (S' := []) (L' := [(5, .int s0), (0, .ref 31), (1, .int x0_1), (2, .int x0_2), (3, .int x0_3), (4, .int x0_4)]) (h' := h2) rfl rfl rfl rfl rfl).trans (kV_cg fun h4 => ?_)
      exact es_cut rfl rfl rfl
    · refine (es_st 8 (pc' := 152) (L' := [(5, .int s0), (0, .ref 31), (1, .int x0_1), (2, .int x0_2), (3, .int x0_3), (4, .int x0_4)]) (S' := [.int (x0_2 + ((3 : Int32) * s0)), .ref 100, .ref 31]) (h' := h2) rfl).trans ?_
      refine (es_ob (o := rAt h2 100 (x0_2 + ((3 : Int32) * s0))) (pc' := 155) (L' := [(5, .int s0), (0, .ref 31), (1, .int x0_1), (2, .int x0_2), (3, .int x0_3), (4, .int x0_4)]) (S' := fun z => [.int z, .ref 31]) (h' := fun z => h2) rfl rfl rfl).trans (ob_cg fun x5 => ?_)
      refine (es_st 1 (pc' := 157) (L' := [(5, .int s0), (0, .ref 31), (1, .int x0_1), (2, .int x0_2), (3, .int x0_3), (4, .int x0_4)]) (S' := [.int (-2 : Int32), .int x5, .ref 31]) (h' := h2) rfl).trans ?_
      refine (is_ne (t := 164) rfl rfl rfl).trans (if_cg ?_ ?_)
      · refine (es_st 6 (pc' := 174) (L' := [(5, .int s0), (0, .ref 31), (1, .int x0_1), (2, .int x0_2), (3, .int x0_3), (4, .int x0_4)]) (S' := [.int (sF h2 27 7), .int (23 : Int32), .int (1 : Int32), .ref 31]) (h' := h2) rfl).trans ?_
        refine (es_cV (b := true) (k' := 49) (pc' := 177) (as := [.ref 31, .int (1 : Int32), .int (23 : Int32), .int (sF h2 27 7)]) (S' := []) (L' := [(5, .int s0), (0, .ref 31), (1, .int x0_1), (2, .int x0_2), (3, .int x0_3), (4, .int x0_4)]) (h' := h2) rfl rfl rfl rfl rfl).trans (kV_cg fun h7 => ?_)
        exact es_cut rfl rfl rfl
      · refine (es_st 5 (pc' := 174) (L' := [(5, .int s0), (0, .ref 31), (1, .int x0_1), (2, .int x0_2), (3, .int x0_3), (4, .int x0_4)]) (S' := [.int (sF h2 27 7), .int (23 : Int32), .int (0 : Int32), .ref 31]) (h' := h2) rfl).trans ?_
        refine (es_cV (b := true) (k' := 49) (pc' := 177) (as := [.ref 31, .int (0 : Int32), .int (23 : Int32), .int (sF h2 27 7)]) (S' := []) (L' := [(5, .int s0), (0, .ref 31), (1, .int x0_1), (2, .int x0_2), (3, .int x0_3), (4, .int x0_4)]) (h' := h2) rfl rfl rfl rfl rfl).trans (kV_cg fun h6 => ?_)
        exact es_cut rfl rfl rfl
theorem sX3_link_177 (d : Nat) (hd : 4 ≤ d) (h : SG) (x0_1 : Int32) (x0_2 : Int32) (x0_3 : Int32) (x0_4 : Int32) : evS true d 85 177 [(0, .ref 31), (1, .int x0_1), (2, .int x0_2), (3, .int x0_3), (4, .int x0_4)] [] h = kV (mS true (d - 1) 30 [.ref 27] h) (fun h1 => if (sF h1 27 6) = (40 : Int32) then evS true d 85 202 [(0, .ref 31), (1, .int x0_1), (2, .int x0_2), (3, .int x0_3), (4, .int x0_4)] [.int (1 : Int32), .ref 31] h1 else evS true d 85 202 [(0, .ref 31), (1, .int x0_1), (2, .int x0_2), (3, .int x0_3), (4, .int x0_4)] [.int (0 : Int32), .ref 31] h1) := by
  obtain ⟨d, rfl⟩ : ∃ e, d = e + 4 := ⟨d - 4, by omega⟩
  refine (es_st 2 (pc' := 181) (L' := [(0, .ref 31), (1, .int x0_1), (2, .int x0_2), (3, .int x0_3), (4, .int x0_4)]) (S' := [.ref 27]) (h' := h) rfl).trans ?_
  refine (es_cV (b := true) (k' := 30) (pc' := 184) (as := [.ref 27]) (S' := []) (L' := [(0, .ref 31), (1, .int x0_1), (2, .int x0_2), (3, .int x0_3), (4, .int x0_4)]) (h' := h) rfl rfl rfl rfl rfl).trans (kV_cg fun h1 => ?_)
  refine (es_st 5 (pc' := 194) (L' := [(0, .ref 31), (1, .int x0_1), (2, .int x0_2), (3, .int x0_3), (4, .int x0_4)]) (S' := [.int (40 : Int32), .int (sF h1 27 6), .ref 31]) (h' := h1) rfl).trans ?_
  refine (is_ne (t := 201) rfl rfl rfl).trans (if_cg ?_ ?_)
  · refine (es_st 2 (pc' := 202) (L' := [(0, .ref 31), (1, .int x0_1), (2, .int x0_2), (3, .int x0_3), (4, .int x0_4)]) (S' := [.int (1 : Int32), .ref 31]) (h' := h1) rfl).trans ?_
    exact es_cut rfl rfl rfl
  · refine (es_st 1 (pc' := 202) (L' := [(0, .ref 31), (1, .int x0_1), (2, .int x0_2), (3, .int x0_3), (4, .int x0_4)]) (S' := [.int (0 : Int32), .ref 31]) (h' := h1) rfl).trans ?_
    exact es_cut rfl rfl rfl
theorem sX3_link_202 (d : Nat) (hd : 4 ≤ d) (h : SG) (x0_1 : Int32) (x0_2 : Int32) (x0_3 : Int32) (x0_4 : Int32) (s0 : Int32) : evS true d 85 202 [(0, .ref 31), (1, .int x0_1), (2, .int x0_2), (3, .int x0_3), (4, .int x0_4)] [.int s0, .ref 31] h = kV (mS true (d - 1) 49 [.ref 31, .int s0, .int (2 : Int32), .int (sF h 27 7)] h) (fun h1 => kI (mS true (d - 1) 86 [.ref 31] h1) (fun x3 h2 => if (sF h2 31 2) = 0 then some (.inl none, h2) else kI (mS true (d - 1) 134 [.ref 93, .int x0_1] h2) (fun x5 h4 => ob (rTake h4 36) (fun q6 => kI (mS true (d - 1) 138 [.ref 93, .int x0_4] q6.2) (fun x8 h7 => if x8 = 0 then evS true d 85 282 [(0, .ref 31), (3, .int x0_3), (4, .int x0_4), (5, .int (Int32.ofNat (sW h1 102).length)), (6, .int x3), (7, .int (x0_2 + ((3 : Int32) * (x0_4 - x5)))), (8, .int q6.1)] [.int (1 : Int32)] h7 else evS true d 85 282 [(0, .ref 31), (3, .int x0_3), (4, .int x0_4), (5, .int (Int32.ofNat (sW h1 102).length)), (6, .int x3), (7, .int (x0_2 + ((3 : Int32) * (x0_4 - x5)))), (8, .int q6.1)] [.int (0 : Int32)] h7))))) := by
  obtain ⟨d, rfl⟩ : ∃ e, d = e + 4 := ⟨d - 4, by omega⟩
  refine (es_st 4 (pc' := 210) (L' := [(0, .ref 31), (1, .int x0_1), (2, .int x0_2), (3, .int x0_3), (4, .int x0_4)]) (S' := [.int (sF h 27 7), .int (2 : Int32), .int s0, .ref 31]) (h' := h) rfl).trans ?_
  refine (es_cV (b := true) (k' := 49) (pc' := 213) (as := [.ref 31, .int s0, .int (2 : Int32), .int (sF h 27 7)]) (S' := []) (L' := [(0, .ref 31), (1, .int x0_1), (2, .int x0_2), (3, .int x0_3), (4, .int x0_4)]) (h' := h) rfl rfl rfl rfl rfl).trans (kV_cg fun h1 => ?_)
  refine (es_st 6 (pc' := 226) (L' := [(5, .int (Int32.ofNat (sW h1 102).length)), (0, .ref 31), (1, .int x0_1), (2, .int x0_2), (3, .int x0_3), (4, .int x0_4)]) (S' := [.ref 31]) (h' := h1) rfl).trans ?_
  refine (es_cI (b := true) (k' := 86) (pc' := 229) (as := [.ref 31]) (S' := []) (L' := [(5, .int (Int32.ofNat (sW h1 102).length)), (0, .ref 31), (1, .int x0_1), (2, .int x0_2), (3, .int x0_3), (4, .int x0_4)]) (h' := h1) rfl rfl rfl rfl rfl).trans (kI_cg fun x3 h2 => ?_)
  refine (es_st 3 (pc' := 235) (L' := [(6, .int x3), (5, .int (Int32.ofNat (sW h1 102).length)), (0, .ref 31), (1, .int x0_1), (2, .int x0_2), (3, .int x0_3), (4, .int x0_4)]) (S' := [.int (sF h2 31 2)]) (h' := h2) rfl).trans ?_
  refine (zs_ne (t := 239) rfl rfl rfl).trans (if_cg ?_ ?_)
  · exact es_fin rfl rfl rfl
  · refine (es_st 6 (pc' := 248) (L' := [(6, .int x3), (5, .int (Int32.ofNat (sW h1 102).length)), (0, .ref 31), (1, .int x0_1), (2, .int x0_2), (3, .int x0_3), (4, .int x0_4)]) (S' := [.int x0_1, .ref 93, .int x0_4, .int (3 : Int32), .int x0_2]) (h' := h2) rfl).trans ?_
    refine (es_cI (b := true) (k' := 134) (pc' := 251) (as := [.ref 93, .int x0_1]) (S' := [.int x0_4, .int (3 : Int32), .int x0_2]) (L' := [(6, .int x3), (5, .int (Int32.ofNat (sW h1 102).length)), (0, .ref 31), (1, .int x0_1), (2, .int x0_2), (3, .int x0_3), (4, .int x0_4)]) (h' := h2) rfl rfl rfl rfl rfl).trans (kI_cg fun x5 h4 => ?_)
    refine (es_st 6 (pc' := 260) (L' := [(7, .int (x0_2 + ((3 : Int32) * (x0_4 - x5)))), (6, .int x3), (5, .int (Int32.ofNat (sW h1 102).length)), (0, .ref 31), (1, .int x0_1), (2, .int x0_2), (3, .int x0_3), (4, .int x0_4)]) (S' := [.ref 36]) (h' := h4) rfl).trans ?_
    refine (es_ob (o := rTake h4 36) (pc' := 263) (L' := [(7, .int (x0_2 + ((3 : Int32) * (x0_4 - x5)))), (6, .int x3), (5, .int (Int32.ofNat (sW h1 102).length)), (0, .ref 31), (1, .int x0_1), (2, .int x0_2), (3, .int x0_3), (4, .int x0_4)]) (S' := fun z => [.int z.1]) (h' := fun z => z.2) rfl rfl rfl).trans (ob_cg fun q6 => ?_)
    refine (es_st 4 (pc' := 271) (L' := [(8, .int q6.1), (7, .int (x0_2 + ((3 : Int32) * (x0_4 - x5)))), (6, .int x3), (5, .int (Int32.ofNat (sW h1 102).length)), (0, .ref 31), (1, .int x0_1), (2, .int x0_2), (3, .int x0_3), (4, .int x0_4)]) (S' := [.int x0_4, .ref 93]) (h' := q6.2) rfl).trans ?_
    refine (es_cI (b := true) (k' := 138) (pc' := 274) (as := [.ref 93, .int x0_4]) (S' := []) (L' := [(8, .int q6.1), (7, .int (x0_2 + ((3 : Int32) * (x0_4 - x5)))), (6, .int x3), (5, .int (Int32.ofNat (sW h1 102).length)), (0, .ref 31), (1, .int x0_1), (2, .int x0_2), (3, .int x0_3), (4, .int x0_4)]) (h' := q6.2) rfl rfl rfl rfl rfl).trans (kI_cg fun x8 h7 => ?_)
    refine (zs_ne (t := 281) rfl rfl rfl).trans (if_cg ?_ ?_)
    · refine (es_st 2 (pc' := 282) (L' := [(8, .int q6.1), (7, .int (x0_2 + ((3 : Int32) * (x0_4 - x5)))), (6, .int x3), (5, .int (Int32.ofNat (sW h1 102).length)), (0, .ref 31), (1, .int x0_1), (2, .int x0_2), (3, .int x0_3), (4, .int x0_4)]) (S' := [.int (1 : Int32)]) (h' := h7) rfl).trans ?_
      exact es_cut rfl rfl rfl
    · refine (es_st 1 (pc' := 282) (L' := [(8, .int q6.1), (7, .int (x0_2 + ((3 : Int32) * (x0_4 - x5)))), (6, .int x3), (5, .int (Int32.ofNat (sW h1 102).length)), (0, .ref 31), (1, .int x0_1), (2, .int x0_2), (3, .int x0_3), (4, .int x0_4)]) (S' := [.int (0 : Int32)]) (h' := h7) rfl).trans ?_
      exact es_cut rfl rfl rfl
theorem sX3_link_282 (d : Nat) (hd : 4 ≤ d) (h : SG) (x0_3 : Int32) (x0_4 : Int32) (x0_5 : Int32) (x0_6 : Int32) (x0_7 : Int32) (x0_8 : Int32) (s0 : Int32) : evS true d 85 282 [(0, .ref 31), (3, .int x0_3), (4, .int x0_4), (5, .int x0_5), (6, .int x0_6), (7, .int x0_7), (8, .int x0_8)] [.int s0] h = if (x0_5 + (2 : Int32)) = (Int32.ofNat (sW h 102).length) then ob (rAt h 102 x0_5) (fun x1 => if x1 = (1 : Int32) then if (sF h 31 10) = 0 then evS true d 85 342 [(0, .ref 31), (3, .int x0_3), (4, .int x0_4), (5, .int x0_5), (6, .int x0_6), (7, .int x0_7), (8, .int x0_8), (9, .int s0)] [.int (-1 : Int32)] h else ob (rAt h 102 (x0_5 + (1 : Int32))) (fun x2 => evS true d 85 342 [(0, .ref 31), (3, .int x0_3), (4, .int x0_4), (5, .int x0_5), (6, .int x0_6), (7, .int x0_7), (8, .int x0_8), (9, .int s0)] [.int x2] h) else evS true d 85 342 [(0, .ref 31), (3, .int x0_3), (4, .int x0_4), (5, .int x0_5), (6, .int x0_6), (7, .int x0_7), (8, .int x0_8), (9, .int s0)] [.int (-1 : Int32)] h) else evS true d 85 342 [(0, .ref 31), (3, .int x0_3), (4, .int x0_4), (5, .int x0_5), (6, .int x0_6), (7, .int x0_7), (8, .int x0_8), (9, .int s0)] [.int (-1 : Int32)] h := by
  obtain ⟨d, rfl⟩ : ∃ e, d = e + 4 := ⟨d - 4, by omega⟩
  refine (es_st 8 (pc' := 298) (L' := [(9, .int s0), (0, .ref 31), (3, .int x0_3), (4, .int x0_4), (5, .int x0_5), (6, .int x0_6), (7, .int x0_7), (8, .int x0_8)]) (S' := [.int (Int32.ofNat (sW h 102).length), .int (x0_5 + (2 : Int32))]) (h' := h) rfl).trans ?_
  refine (is_ne (t := 341) rfl rfl rfl).trans (if_cg ?_ ?_)
  · refine (es_st 4 (pc' := 310) (L' := [(9, .int s0), (0, .ref 31), (3, .int x0_3), (4, .int x0_4), (5, .int x0_5), (6, .int x0_6), (7, .int x0_7), (8, .int x0_8)]) (S' := [.int x0_5, .ref 102]) (h' := h) rfl).trans ?_
    refine (es_ob (o := rAt h 102 x0_5) (pc' := 313) (L' := [(9, .int s0), (0, .ref 31), (3, .int x0_3), (4, .int x0_4), (5, .int x0_5), (6, .int x0_6), (7, .int x0_7), (8, .int x0_8)]) (S' := fun z => [.int z]) (h' := fun z => h) rfl rfl rfl).trans (ob_cg fun x1 => ?_)
    refine (es_st 1 (pc' := 314) (L' := [(9, .int s0), (0, .ref 31), (3, .int x0_3), (4, .int x0_4), (5, .int x0_5), (6, .int x0_6), (7, .int x0_7), (8, .int x0_8)]) (S' := [.int (1 : Int32), .int x1]) (h' := h) rfl).trans ?_
    refine (is_ne (t := 341) rfl rfl rfl).trans (if_cg ?_ ?_)
    · refine (es_st 2 (pc' := 321) (L' := [(9, .int s0), (0, .ref 31), (3, .int x0_3), (4, .int x0_4), (5, .int x0_5), (6, .int x0_6), (7, .int x0_7), (8, .int x0_8)]) (S' := [.int (sF h 31 10)]) (h' := h) rfl).trans ?_
      refine (zs_eq (t := 341) rfl rfl rfl).trans (if_cg ?_ ?_)
      · refine (es_st 1 (pc' := 342) (L' := [(9, .int s0), (0, .ref 31), (3, .int x0_3), (4, .int x0_4), (5, .int x0_5), (6, .int x0_6), (7, .int x0_7), (8, .int x0_8)]) (S' := [.int (-1 : Int32)]) (h' := h) rfl).trans ?_
        exact es_cut rfl rfl rfl
      · refine (es_st 6 (pc' := 335) (L' := [(9, .int s0), (0, .ref 31), (3, .int x0_3), (4, .int x0_4), (5, .int x0_5), (6, .int x0_6), (7, .int x0_7), (8, .int x0_8)]) (S' := [.int (x0_5 + (1 : Int32)), .ref 102]) (h' := h) rfl).trans ?_
        refine (es_ob (o := rAt h 102 (x0_5 + (1 : Int32))) (pc' := 338) (L' := [(9, .int s0), (0, .ref 31), (3, .int x0_3), (4, .int x0_4), (5, .int x0_5), (6, .int x0_6), (7, .int x0_7), (8, .int x0_8)]) (S' := fun z => [.int z]) (h' := fun z => h) rfl rfl rfl).trans (ob_cg fun x2 => ?_)
        refine (es_st 1 (pc' := 342) (L' := [(9, .int s0), (0, .ref 31), (3, .int x0_3), (4, .int x0_4), (5, .int x0_5), (6, .int x0_6), (7, .int x0_7), (8, .int x0_8)]) (S' := [.int x2]) (h' := h) rfl).trans ?_
        exact es_cut rfl rfl rfl
    · refine (es_st 1 (pc' := 342) (L' := [(9, .int s0), (0, .ref 31), (3, .int x0_3), (4, .int x0_4), (5, .int x0_5), (6, .int x0_6), (7, .int x0_7), (8, .int x0_8)]) (S' := [.int (-1 : Int32)]) (h' := h) rfl).trans ?_
      exact es_cut rfl rfl rfl
  · refine (es_st 1 (pc' := 342) (L' := [(9, .int s0), (0, .ref 31), (3, .int x0_3), (4, .int x0_4), (5, .int x0_5), (6, .int x0_6), (7, .int x0_7), (8, .int x0_8)]) (S' := [.int (-1 : Int32)]) (h' := h) rfl).trans ?_
    exact es_cut rfl rfl rfl
theorem sX3_link_342 (d : Nat) (hd : 4 ≤ d) (h : SG) (x0_3 : Int32) (x0_4 : Int32) (x0_5 : Int32) (x0_6 : Int32) (x0_7 : Int32) (x0_8 : Int32) (x0_9 : Int32) (s0 : Int32) : evS true d 85 342 [(0, .ref 31), (3, .int x0_3), (4, .int x0_4), (5, .int x0_5), (6, .int x0_6), (7, .int x0_7), (8, .int x0_8), (9, .int x0_9)] [.int s0] h = if x0_9 = 0 then if s0 = (-1 : Int32) then kV (mS true (d - 1) 49 [.ref 31, .int (0 : Int32), .int (25 : Int32), .int x0_6] h) (fun h4 => kI (mS true (d - 1) 137 [.ref 93, .int x0_4] h4) (fun x6 h5 => if x0_8 = x6 then evS true d 85 400 [(0, .ref 31), (3, .int x0_3), (5, .int x0_5), (6, .int x0_6), (7, .int x0_7), (9, .int x0_9), (10, .int s0)] [.int (1 : Int32), .ref 31] h5 else evS true d 85 400 [(0, .ref 31), (3, .int x0_3), (5, .int x0_5), (6, .int x0_6), (7, .int x0_7), (9, .int x0_9), (10, .int s0)] [.int (0 : Int32), .ref 31] h5)) else kI (mS true (d - 1) 139 [.ref 93, .int s0] h) (fun x8 h7 => if x8 = 0 then kV (mS true (d - 1) 49 [.ref 31, .int (0 : Int32), .int (25 : Int32), .int x0_6] h7) (fun h9 => kI (mS true (d - 1) 137 [.ref 93, .int x0_4] h9) (fun x11 h10 => if x0_8 = x11 then evS true d 85 400 [(0, .ref 31), (3, .int x0_3), (5, .int x0_5), (6, .int x0_6), (7, .int x0_7), (9, .int x0_9), (10, .int s0)] [.int (1 : Int32), .ref 31] h10 else evS true d 85 400 [(0, .ref 31), (3, .int x0_3), (5, .int x0_5), (6, .int x0_6), (7, .int x0_7), (9, .int x0_9), (10, .int s0)] [.int (0 : Int32), .ref 31] h10)) else kV (mS true (d - 1) 49 [.ref 31, .int (1 : Int32), .int (25 : Int32), .int x0_6] h7) (fun h12 => kI (mS true (d - 1) 137 [.ref 93, .int x0_4] h12) (fun x14 h13 => if x0_8 = x14 then evS true d 85 400 [(0, .ref 31), (3, .int x0_3), (5, .int x0_5), (6, .int x0_6), (7, .int x0_7), (9, .int x0_9), (10, .int s0)] [.int (1 : Int32), .ref 31] h13 else evS true d 85 400 [(0, .ref 31), (3, .int x0_3), (5, .int x0_5), (6, .int x0_6), (7, .int x0_7), (9, .int x0_9), (10, .int s0)] [.int (0 : Int32), .ref 31] h13))) else kV (mS true (d - 1) 49 [.ref 31, .int (1 : Int32), .int (25 : Int32), .int x0_6] h) (fun h1 => kI (mS true (d - 1) 137 [.ref 93, .int x0_4] h1) (fun x3 h2 => if x0_8 = x3 then evS true d 85 400 [(0, .ref 31), (3, .int x0_3), (5, .int x0_5), (6, .int x0_6), (7, .int x0_7), (9, .int x0_9), (10, .int s0)] [.int (1 : Int32), .ref 31] h2 else evS true d 85 400 [(0, .ref 31), (3, .int x0_3), (5, .int x0_5), (6, .int x0_6), (7, .int x0_7), (9, .int x0_9), (10, .int s0)] [.int (0 : Int32), .ref 31] h2)) := by
  obtain ⟨d, rfl⟩ : ∃ e, d = e + 4 := ⟨d - 4, by omega⟩
  refine (es_st 3 (pc' := 347) (L' := [(10, .int s0), (0, .ref 31), (3, .int x0_3), (4, .int x0_4), (5, .int x0_5), (6, .int x0_6), (7, .int x0_7), (8, .int x0_8), (9, .int x0_9)]) (S' := [.int x0_9, .ref 31]) (h' := h) rfl).trans ?_
  refine (zs_ne (t := 368) rfl rfl rfl).trans (if_cg ?_ ?_)
  · refine (es_st 2 (pc' := 353) (L' := [(10, .int s0), (0, .ref 31), (3, .int x0_3), (4, .int x0_4), (5, .int x0_5), (6, .int x0_6), (7, .int x0_7), (8, .int x0_8), (9, .int x0_9)]) (S' := [.int (-1 : Int32), .int s0, .ref 31]) (h' := h) rfl).trans ?_
    refine (is_eq (t := 372) rfl rfl rfl).trans (if_cg ?_ ?_)
    · refine (es_st 3 (pc' := 377) (L' := [(10, .int s0), (0, .ref 31), (3, .int x0_3), (4, .int x0_4), (5, .int x0_5), (6, .int x0_6), (7, .int x0_7), (8, .int x0_8), (9, .int x0_9)]) (S' := [.int x0_6, .int (25 : Int32), .int (0 : Int32), .ref 31]) (h' := h) rfl).trans ?_
      refine (es_cV (b := true) (k' := 49) (pc' := 380) (as := [.ref 31, .int (0 : Int32), .int (25 : Int32), .int x0_6]) (S' := []) (L' := [(10, .int s0), (0, .ref 31), (3, .int x0_3), (4, .int x0_4), (5, .int x0_5), (6, .int x0_6), (7, .int x0_7), (8, .int x0_8), (9, .int x0_9)]) (h' := h) rfl rfl rfl rfl rfl).trans (kV_cg fun h4 => ?_)
      refine (es_st 5 (pc' := 389) (L' := [(10, .int s0), (0, .ref 31), (3, .int x0_3), (4, .int x0_4), (5, .int x0_5), (6, .int x0_6), (7, .int x0_7), (8, .int x0_8), (9, .int x0_9)]) (S' := [.int x0_4, .ref 93, .int x0_8, .ref 31]) (h' := h4) rfl).trans ?_
      refine (es_cI (b := true) (k' := 137) (pc' := 392) (as := [.ref 93, .int x0_4]) (S' := [.int x0_8, .ref 31]) (L' := [(10, .int s0), (0, .ref 31), (3, .int x0_3), (4, .int x0_4), (5, .int x0_5), (6, .int x0_6), (7, .int x0_7), (8, .int x0_8), (9, .int x0_9)]) (h' := h4) rfl rfl rfl rfl rfl).trans (kI_cg fun x6 h5 => ?_)
      refine (is_ne (t := 399) rfl rfl rfl).trans (if_cg ?_ ?_)
      · refine (es_st 2 (pc' := 400) (L' := [(10, .int s0), (0, .ref 31), (3, .int x0_3), (4, .int x0_4), (5, .int x0_5), (6, .int x0_6), (7, .int x0_7), (8, .int x0_8), (9, .int x0_9)]) (S' := [.int (1 : Int32), .ref 31]) (h' := h5) rfl).trans ?_
        exact es_cut rfl rfl rfl
      · refine (es_st 1 (pc' := 400) (L' := [(10, .int s0), (0, .ref 31), (3, .int x0_3), (4, .int x0_4), (5, .int x0_5), (6, .int x0_6), (7, .int x0_7), (8, .int x0_8), (9, .int x0_9)]) (S' := [.int (0 : Int32), .ref 31]) (h' := h5) rfl).trans ?_
        exact es_cut rfl rfl rfl
    · refine (es_st 3 (pc' := 362) (L' := [(10, .int s0), (0, .ref 31), (3, .int x0_3), (4, .int x0_4), (5, .int x0_5), (6, .int x0_6), (7, .int x0_7), (8, .int x0_8), (9, .int x0_9)]) (S' := [.int s0, .ref 93, .ref 31]) (h' := h) rfl).trans ?_
      refine (es_cI (b := true) (k' := 139) (pc' := 365) (as := [.ref 93, .int s0]) (S' := [.ref 31]) (L' := [(10, .int s0), (0, .ref 31), (3, .int x0_3), (4, .int x0_4), (5, .int x0_5), (6, .int x0_6), (7, .int x0_7), (8, .int x0_8), (9, .int x0_9)]) (h' := h) rfl rfl rfl rfl rfl).trans (kI_cg fun x8 h7 => ?_)
      refine (zs_eq (t := 372) rfl rfl rfl).trans (if_cg ?_ ?_)
      · refine (es_st 3 (pc' := 377) (L' := [(10, .int s0), (0, .ref 31), (3, .int x0_3), (4, .int x0_4), (5, .int x0_5), (6, .int x0_6), (7, .int x0_7), (8, .int x0_8), (9, .int x0_9)]) (S' := [.int x0_6, .int (25 : Int32), .int (0 : Int32), .ref 31]) (h' := h7) rfl).trans ?_
        refine (es_cV (b := true) (k' := 49) (pc' := 380) (as := [.ref 31, .int (0 : Int32), .int (25 : Int32), .int x0_6]) (S' := []) (L' := [(10, .int s0), (0, .ref 31), (3, .int x0_3), (4, .int x0_4), (5, .int x0_5), (6, .int x0_6), (7, .int x0_7), (8, .int x0_8), (9, .int x0_9)]) (h' := h7) rfl rfl rfl rfl rfl).trans (kV_cg fun h9 => ?_)
        refine (es_st 5 (pc' := 389) (L' := [(10, .int s0), (0, .ref 31), (3, .int x0_3), (4, .int x0_4), (5, .int x0_5), (6, .int x0_6), (7, .int x0_7), (8, .int x0_8), (9, .int x0_9)]) (S' := [.int x0_4, .ref 93, .int x0_8, .ref 31]) (h' := h9) rfl).trans ?_
        refine (es_cI (b := true) (k' := 137) (pc' := 392) (as := [.ref 93, .int x0_4]) (S' := [.int x0_8, .ref 31]) (L' := [(10, .int s0), (0, .ref 31), (3, .int x0_3), (4, .int x0_4), (5, .int x0_5), (6, .int x0_6), (7, .int x0_7), (8, .int x0_8), (9, .int x0_9)]) (h' := h9) rfl rfl rfl rfl rfl).trans (kI_cg fun x11 h10 => ?_)
        refine (is_ne (t := 399) rfl rfl rfl).trans (if_cg ?_ ?_)
        · refine (es_st 2 (pc' := 400) (L' := [(10, .int s0), (0, .ref 31), (3, .int x0_3), (4, .int x0_4), (5, .int x0_5), (6, .int x0_6), (7, .int x0_7), (8, .int x0_8), (9, .int x0_9)]) (S' := [.int (1 : Int32), .ref 31]) (h' := h10) rfl).trans ?_
          exact es_cut rfl rfl rfl
        · refine (es_st 1 (pc' := 400) (L' := [(10, .int s0), (0, .ref 31), (3, .int x0_3), (4, .int x0_4), (5, .int x0_5), (6, .int x0_6), (7, .int x0_7), (8, .int x0_8), (9, .int x0_9)]) (S' := [.int (0 : Int32), .ref 31]) (h' := h10) rfl).trans ?_
          exact es_cut rfl rfl rfl
      · refine (es_st 4 (pc' := 377) (L' := [(10, .int s0), (0, .ref 31), (3, .int x0_3), (4, .int x0_4), (5, .int x0_5), (6, .int x0_6), (7, .int x0_7), (8, .int x0_8), (9, .int x0_9)]) (S' := [.int x0_6, .int (25 : Int32), .int (1 : Int32), .ref 31]) (h' := h7) rfl).trans ?_
        refine (es_cV (b := true) (k' := 49) (pc' := 380) (as := [.ref 31, .int (1 : Int32), .int (25 : Int32), .int x0_6]) (S' := []) (L' := [(10, .int s0), (0, .ref 31), (3, .int x0_3), (4, .int x0_4), (5, .int x0_5), (6, .int x0_6), (7, .int x0_7), (8, .int x0_8), (9, .int x0_9)]) (h' := h7) rfl rfl rfl rfl rfl).trans (kV_cg fun h12 => ?_)
        refine (es_st 5 (pc' := 389) (L' := [(10, .int s0), (0, .ref 31), (3, .int x0_3), (4, .int x0_4), (5, .int x0_5), (6, .int x0_6), (7, .int x0_7), (8, .int x0_8), (9, .int x0_9)]) (S' := [.int x0_4, .ref 93, .int x0_8, .ref 31]) (h' := h12) rfl).trans ?_
        refine (es_cI (b := true) (k' := 137) (pc' := 392) (as := [.ref 93, .int x0_4]) (S' := [.int x0_8, .ref 31]) (L' := [(10, .int s0), (0, .ref 31), (3, .int x0_3), (4, .int x0_4), (5, .int x0_5), (6, .int x0_6), (7, .int x0_7), (8, .int x0_8), (9, .int x0_9)]) (h' := h12) rfl rfl rfl rfl rfl).trans (kI_cg fun x14 h13 => ?_)
        refine (is_ne (t := 399) rfl rfl rfl).trans (if_cg ?_ ?_)
        · refine (es_st 2 (pc' := 400) (L' := [(10, .int s0), (0, .ref 31), (3, .int x0_3), (4, .int x0_4), (5, .int x0_5), (6, .int x0_6), (7, .int x0_7), (8, .int x0_8), (9, .int x0_9)]) (S' := [.int (1 : Int32), .ref 31]) (h' := h13) rfl).trans ?_
          exact es_cut rfl rfl rfl
        · refine (es_st 1 (pc' := 400) (L' := [(10, .int s0), (0, .ref 31), (3, .int x0_3), (4, .int x0_4), (5, .int x0_5), (6, .int x0_6), (7, .int x0_7), (8, .int x0_8), (9, .int x0_9)]) (S' := [.int (0 : Int32), .ref 31]) (h' := h13) rfl).trans ?_
          exact es_cut rfl rfl rfl
  · refine (es_st 4 (pc' := 377) (L' := [(10, .int s0), (0, .ref 31), (3, .int x0_3), (4, .int x0_4), (5, .int x0_5), (6, .int x0_6), (7, .int x0_7), (8, .int x0_8), (9, .int x0_9)]) (S' := [.int x0_6, .int (25 : Int32), .int (1 : Int32), .ref 31]) (h' := h) rfl).trans ?_
    refine (es_cV (b := true) (k' := 49) (pc' := 380) (as := [.ref 31, .int (1 : Int32), .int (25 : Int32), .int x0_6]) (S' := []) (L' := [(10, .int s0), (0, .ref 31), (3, .int x0_3), (4, .int x0_4), (5, .int x0_5), (6, .int x0_6), (7, .int x0_7), (8, .int x0_8), (9, .int x0_9)]) (h' := h) rfl rfl rfl rfl rfl).trans (kV_cg fun h1 => ?_)
    refine (es_st 5 (pc' := 389) (L' := [(10, .int s0), (0, .ref 31), (3, .int x0_3), (4, .int x0_4), (5, .int x0_5), (6, .int x0_6), (7, .int x0_7), (8, .int x0_8), (9, .int x0_9)]) (S' := [.int x0_4, .ref 93, .int x0_8, .ref 31]) (h' := h1) rfl).trans ?_
    refine (es_cI (b := true) (k' := 137) (pc' := 392) (as := [.ref 93, .int x0_4]) (S' := [.int x0_8, .ref 31]) (L' := [(10, .int s0), (0, .ref 31), (3, .int x0_3), (4, .int x0_4), (5, .int x0_5), (6, .int x0_6), (7, .int x0_7), (8, .int x0_8), (9, .int x0_9)]) (h' := h1) rfl rfl rfl rfl rfl).trans (kI_cg fun x3 h2 => ?_)
    refine (is_ne (t := 399) rfl rfl rfl).trans (if_cg ?_ ?_)
    · refine (es_st 2 (pc' := 400) (L' := [(10, .int s0), (0, .ref 31), (3, .int x0_3), (4, .int x0_4), (5, .int x0_5), (6, .int x0_6), (7, .int x0_7), (8, .int x0_8), (9, .int x0_9)]) (S' := [.int (1 : Int32), .ref 31]) (h' := h2) rfl).trans ?_
      exact es_cut rfl rfl rfl
    · refine (es_st 1 (pc' := 400) (L' := [(10, .int s0), (0, .ref 31), (3, .int x0_3), (4, .int x0_4), (5, .int x0_5), (6, .int x0_6), (7, .int x0_7), (8, .int x0_8), (9, .int x0_9)]) (S' := [.int (0 : Int32), .ref 31]) (h' := h2) rfl).trans ?_
      exact es_cut rfl rfl rfl
theorem sX3_link_400 (d : Nat) (hd : 4 ≤ d) (h : SG) (x0_3 : Int32) (x0_5 : Int32) (x0_6 : Int32) (x0_7 : Int32) (x0_9 : Int32) (x0_10 : Int32) (s0 : Int32) : evS true d 85 400 [(0, .ref 31), (3, .int x0_3), (5, .int x0_5), (6, .int x0_6), (7, .int x0_7), (9, .int x0_9), (10, .int x0_10)] [.int s0, .ref 31] h = kV (mS true (d - 1) 49 [.ref 31, .int s0, .int (30 : Int32), .int x0_3] h) (fun h1 => if x0_9 = 0 then kV (mS true (d - 1) 60 [.ref 31, .int x0_10, .int x0_6] h1) (fun h2 => if x0_9 = 0 then evS true d 85 439 [(0, .ref 31), (5, .int x0_5), (7, .int x0_7)] [.int x0_10, .int x0_7, .ref 100] h2 else evS true d 85 439 [(0, .ref 31), (5, .int x0_5), (7, .int x0_7)] [.int (-1 : Int32), .int x0_7, .ref 100] h2) else if x0_9 = 0 then evS true d 85 439 [(0, .ref 31), (5, .int x0_5), (7, .int x0_7)] [.int x0_10, .int x0_7, .ref 100] h1 else evS true d 85 439 [(0, .ref 31), (5, .int x0_5), (7, .int x0_7)] [.int (-1 : Int32), .int x0_7, .ref 100] h1) := by
  obtain ⟨d, rfl⟩ : ∃ e, d = e + 4 := ⟨d - 4, by omega⟩
  refine (es_st 2 (pc' := 403) (L' := [(0, .ref 31), (3, .int x0_3), (5, .int x0_5), (6, .int x0_6), (7, .int x0_7), (9, .int x0_9), (10, .int x0_10)]) (S' := [.int x0_3, .int (30 : Int32), .int s0, .ref 31]) (h' := h) rfl).trans ?_
  refine (es_cV (b := true) (k' := 49) (pc' := 406) (as := [.ref 31, .int s0, .int (30 : Int32), .int x0_3]) (S' := []) (L' := [(0, .ref 31), (3, .int x0_3), (5, .int x0_5), (6, .int x0_6), (7, .int x0_7), (9, .int x0_9), (10, .int x0_10)]) (h' := h) rfl rfl rfl rfl rfl).trans (kV_cg fun h1 => ?_)
  refine (es_st 1 (pc' := 408) (L' := [(0, .ref 31), (3, .int x0_3), (5, .int x0_5), (6, .int x0_6), (7, .int x0_7), (9, .int x0_9), (10, .int x0_10)]) (S' := [.int x0_9]) (h' := h1) rfl).trans ?_
  refine (zs_ne (t := 419) rfl rfl rfl).trans (if_cg ?_ ?_)
  · refine (es_st 3 (pc' := 416) (L' := [(0, .ref 31), (3, .int x0_3), (5, .int x0_5), (6, .int x0_6), (7, .int x0_7), (9, .int x0_9), (10, .int x0_10)]) (S' := [.int x0_6, .int x0_10, .ref 31]) (h' := h1) rfl).trans ?_
    refine (es_cV (b := true) (k' := 60) (pc' := 419) (as := [.ref 31, .int x0_10, .int x0_6]) (S' := []) (L' := [(0, .ref 31), (3, .int x0_3), (5, .int x0_5), (6, .int x0_6), (7, .int x0_7), (9, .int x0_9), (10, .int x0_10)]) (h' := h1) rfl rfl rfl rfl rfl).trans (kV_cg fun h2 => ?_)
    refine (es_st 5 (pc' := 430) (L' := [(0, .ref 31), (3, .int x0_3), (5, .int x0_5), (6, .int x0_6), (7, .int x0_7), (9, .int x0_9), (10, .int x0_10)]) (S' := [.int x0_9, .int x0_7, .ref 100]) (h' := h2) rfl).trans ?_
    refine (zs_eq (t := 437) rfl rfl rfl).trans (if_cg ?_ ?_)
    · refine (es_st 1 (pc' := 439) (L' := [(0, .ref 31), (3, .int x0_3), (5, .int x0_5), (6, .int x0_6), (7, .int x0_7), (9, .int x0_9), (10, .int x0_10)]) (S' := [.int x0_10, .int x0_7, .ref 100]) (h' := h2) rfl).trans ?_
      exact es_cut rfl rfl rfl
    · refine (es_st 2 (pc' := 439) (L' := [(0, .ref 31), (3, .int x0_3), (5, .int x0_5), (6, .int x0_6), (7, .int x0_7), (9, .int x0_9), (10, .int x0_10)]) (S' := [.int (-1 : Int32), .int x0_7, .ref 100]) (h' := h2) rfl).trans ?_
      exact es_cut rfl rfl rfl
  · refine (es_st 5 (pc' := 430) (L' := [(0, .ref 31), (3, .int x0_3), (5, .int x0_5), (6, .int x0_6), (7, .int x0_7), (9, .int x0_9), (10, .int x0_10)]) (S' := [.int x0_9, .int x0_7, .ref 100]) (h' := h1) rfl).trans ?_
    refine (zs_eq (t := 437) rfl rfl rfl).trans (if_cg ?_ ?_)
    · refine (es_st 1 (pc' := 439) (L' := [(0, .ref 31), (3, .int x0_3), (5, .int x0_5), (6, .int x0_6), (7, .int x0_7), (9, .int x0_9), (10, .int x0_10)]) (S' := [.int x0_10, .int x0_7, .ref 100]) (h' := h1) rfl).trans ?_
      exact es_cut rfl rfl rfl
    · refine (es_st 2 (pc' := 439) (L' := [(0, .ref 31), (3, .int x0_3), (5, .int x0_5), (6, .int x0_6), (7, .int x0_7), (9, .int x0_9), (10, .int x0_10)]) (S' := [.int (-1 : Int32), .int x0_7, .ref 100]) (h' := h1) rfl).trans ?_
      exact es_cut rfl rfl rfl
theorem sX3_link_439 (d : Nat) (hd : 4 ≤ d) (h : SG) (x0_5 : Int32) (x0_7 : Int32) (s0 : Int32) (s1 : Int32) : evS true d 85 439 [(0, .ref 31), (5, .int x0_5), (7, .int x0_7)] [.int s0, .int s1, .ref 100] h = ob (rSet h 100 s1 s0) (fun h1 => ob (rSet h1 100 (x0_7 + (1 : Int32)) x0_5) (fun h2 => ob (rSet h2 100 (x0_7 + (2 : Int32)) (Int32.ofNat (sW h2 102).length)) (fun h3 => some (.inl none, h3)))) := by
  obtain ⟨d, rfl⟩ : ∃ e, d = e + 4 := ⟨d - 4, by omega⟩
  refine (es_ob (o := rSet h 100 s1 s0) (pc' := 442) (L' := [(0, .ref 31), (5, .int x0_5), (7, .int x0_7)]) (S' := fun z => []) (h' := fun z => z) rfl rfl rfl).trans (ob_cg fun h1 => ?_)
  refine (es_st 7 (pc' := 455) (L' := [(0, .ref 31), (5, .int x0_5), (7, .int x0_7)]) (S' := [.int x0_5, .int (x0_7 + (1 : Int32)), .ref 100]) (h' := h1) rfl).trans ?_
  refine (es_ob (o := rSet h1 100 (x0_7 + (1 : Int32)) x0_5) (pc' := 458) (L' := [(0, .ref 31), (5, .int x0_5), (7, .int x0_7)]) (S' := fun z => []) (h' := fun z => z) rfl rfl rfl).trans (ob_cg fun h2 => ?_)
  refine (es_st 10 (pc' := 479) (L' := [(0, .ref 31), (5, .int x0_5), (7, .int x0_7)]) (S' := [.int (Int32.ofNat (sW h2 102).length), .int (x0_7 + (2 : Int32)), .ref 100]) (h' := h2) rfl).trans ?_
  refine (es_ob (o := rSet h2 100 (x0_7 + (2 : Int32)) (Int32.ofNat (sW h2 102).length)) (pc' := 482) (L' := [(0, .ref 31), (5, .int x0_5), (7, .int x0_7)]) (S' := fun z => []) (h' := fun z => z) rfl rfl rfl).trans (ob_cg fun h3 => ?_)
  exact es_fin rfl rfl rfl
theorem sX3_linked_0 (d : Nat) (hd : 1 ≤ d) (h : SG) : mS true d 86 [.ref 31] h = kV (mS true (d - 1) 69 [.ref 31] h) (fun h1 => kV (mS true (d - 1) 30 [.ref 27] h1) (fun h2 => if (sF h2 27 6) = (257 : Int32) then evS true d 86 37 [(0, .ref 31), (1, .int (sF h2 27 7))] [.int (1 : Int32)] h2 else evS true d 86 37 [(0, .ref 31), (1, .int (sF h2 27 7))] [.int (0 : Int32)] h2)) := by
  obtain ⟨d, rfl⟩ : ∃ e, d = e + 1 := ⟨d - 1, by omega⟩
  show evS true (d + 1) 86 0 [(0, .ref 31)] [] h = _
  refine (es_st 1 (pc' := 1) (L' := [(0, .ref 31)]) (S' := [.ref 31]) (h' := h) rfl).trans ?_
  refine (es_cV (b := true) (k' := 69) (pc' := 4) (as := [.ref 31]) (S' := []) (L' := [(0, .ref 31)]) (h' := h) rfl rfl rfl rfl rfl).trans (kV_cg fun h1 => ?_)
  refine (es_st 2 (pc' := 8) (L' := [(0, .ref 31)]) (S' := [.ref 27]) (h' := h1) rfl).trans ?_
  refine (es_cV (b := true) (k' := 30) (pc' := 11) (as := [.ref 27]) (S' := []) (L' := [(0, .ref 31)]) (h' := h1) rfl rfl rfl rfl rfl).trans (kV_cg fun h2 => ?_)
  refine (es_st 8 (pc' := 29) (L' := [(1, .int (sF h2 27 7)), (0, .ref 31)]) (S' := [.int (257 : Int32), .int (sF h2 27 6)]) (h' := h2) rfl).trans ?_
  refine (is_ne (t := 36) rfl rfl rfl).trans (if_cg ?_ ?_)
  · refine (es_st 2 (pc' := 37) (L' := [(1, .int (sF h2 27 7)), (0, .ref 31)]) (S' := [.int (1 : Int32)]) (h' := h2) rfl).trans ?_
    exact es_cut rfl rfl rfl
  · refine (es_st 1 (pc' := 37) (L' := [(1, .int (sF h2 27 7)), (0, .ref 31)]) (S' := [.int (0 : Int32)]) (h' := h2) rfl).trans ?_
    exact es_cut rfl rfl rfl
theorem sX3_linked_37 (d : Nat) (hd : 1 ≤ d) (h : SG) (x0_1 : Int32) (s0 : Int32) : evS true d 86 37 [(0, .ref 31), (1, .int x0_1)] [.int s0] h = kV (mS true (d - 1) 61 [.ref 31] h) (fun h1 => if s0 = 0 ∨ s0 = 1 then kV (mS true (d - 1) 44 [.ref 27, .int (41 : Int32)] (uF (uF h1 31 10 s0) 31 4 ((sF (uF h1 31 10 s0) 31 4) - (1 : Int32)))) (fun h2 => some (.inl (some (.int x0_1)), h2)) else none) := by
  obtain ⟨d, rfl⟩ : ∃ e, d = e + 1 := ⟨d - 1, by omega⟩
  refine (es_st 2 (pc' := 39) (L' := [(2, .int s0), (0, .ref 31), (1, .int x0_1)]) (S' := [.ref 31]) (h' := h) rfl).trans ?_
  refine (es_cV (b := true) (k' := 61) (pc' := 42) (as := [.ref 31]) (S' := []) (L' := [(2, .int s0), (0, .ref 31), (1, .int x0_1)]) (h' := h) rfl rfl rfl rfl rfl).trans (kV_cg fun h1 => ?_)
  refine (es_st 2 (pc' := 44) (L' := [(2, .int s0), (0, .ref 31), (1, .int x0_1)]) (S' := [.int s0, .ref 31]) (h' := h1) rfl).trans ?_
  refine (es_ix (c := s0 = 0 ∨ s0 = 1) (x := (uF h1 31 10 s0)) (pc' := 47) (L' := [(2, .int s0), (0, .ref 31), (1, .int x0_1)]) (S' := fun z => []) (h' := fun z => z) rfl rfl rfl).trans (if_cgn ?_)
  refine (es_st 9 (pc' := 63) (L' := [(2, .int s0), (0, .ref 31), (1, .int x0_1)]) (S' := [.int (41 : Int32), .ref 27]) (h' := (uF (uF h1 31 10 s0) 31 4 ((sF (uF h1 31 10 s0) 31 4) - (1 : Int32)))) rfl).trans ?_
  refine (es_cV (b := true) (k' := 44) (pc' := 66) (as := [.ref 27, .int (41 : Int32)]) (S' := []) (L' := [(2, .int s0), (0, .ref 31), (1, .int x0_1)]) (h' := (uF (uF h1 31 10 s0) 31 4 ((sF (uF h1 31 10 s0) 31 4) - (1 : Int32)))) rfl rfl rfl rfl rfl).trans (kV_cg fun h2 => ?_)
  refine (es_st 1 (pc' := 67) (L' := [(2, .int s0), (0, .ref 31), (1, .int x0_1)]) (S' := [.int x0_1]) (h' := h2) rfl).trans ?_
  exact es_fin rfl rfl rfl
theorem sX3_ended_0 (d : Nat) (hd : 4 ≤ d) (h : SG) : mS true d 87 [.ref 31] h = kI (mS true (d - 1) 134 [.ref 93, .int (sF h 31 3)] h) (fun x2 h1 => evS true d 87 14 [(0, .ref 31), (1, .int x2), (2, .int x2)] [] h1) := by
  obtain ⟨d, rfl⟩ : ∃ e, d = e + 4 := ⟨d - 4, by omega⟩
  show evS true (d + 4) 87 0 [(0, .ref 31)] [] h = _
  refine (es_st 4 (pc' := 8) (L' := [(0, .ref 31)]) (S' := [.int (sF h 31 3), .ref 93]) (h' := h) rfl).trans ?_
  refine (es_cI (b := true) (k' := 134) (pc' := 11) (as := [.ref 93, .int (sF h 31 3)]) (S' := []) (L' := [(0, .ref 31)]) (h' := h) rfl rfl rfl rfl rfl).trans (kI_cg fun x2 h1 => ?_)
  refine (es_st 3 (pc' := 14) (L' := [(2, .int x2), (1, .int x2), (0, .ref 31)]) (S' := []) (h' := h1) rfl).trans ?_
  exact es_cut rfl rfl rfl
theorem sX3_ended_14 (d : Nat) (hd : 4 ≤ d) (h : SG) (x0_1 : Int32) (x0_2 : Int32) : evS true d 87 14 [(0, .ref 31), (1, .int x0_1), (2, .int x0_2)] [] h = if ((Int32.ofNat (sW h 94).length) / (8 : Int32)) ≤ x0_2 then ob (rSet h 96 (((7 : Int32) * (sF h 31 3)) + (5 : Int32)) ((Int32.ofNat (sW h 98).length) / (4 : Int32))) (fun h1 => some (.inl none, h1)) else kI (mS true (d - 1) 139 [.ref 93, .int x0_2] h) (fun x3 h2 => if x3 = 0 then kI (mS true (d - 1) 136 [.ref 93, .int x0_2, .int (6 : Int32)] h2) (fun x5 h4 => kV (mS true (d - 1) 49 [.ref 31, .int (1 : Int32), .int (33 : Int32), .int x5] h4) (fun h6 => evS true d 87 14 [(0, .ref 31), (1, .int x0_1), (2, .int (x0_2 + (1 : Int32)))] [] h6)) else ob (rAt h2 38 (x0_2 - x0_1)) (fun x7 => if x7 ≤ 0 then kI (mS true (d - 1) 136 [.ref 93, .int x0_2, .int (6 : Int32)] h2) (fun x9 h8 => kV (mS true (d - 1) 49 [.ref 31, .int (0 : Int32), .int (33 : Int32), .int x9] h8) (fun h10 => evS true d 87 14 [(0, .ref 31), (1, .int x0_1), (2, .int (x0_2 + (1 : Int32)))] [] h10)) else kI (mS true (d - 1) 136 [.ref 93, .int x0_2, .int (6 : Int32)] h2) (fun x12 h11 => kV (mS true (d - 1) 49 [.ref 31, .int (1 : Int32), .int (33 : Int32), .int x12] h11) (fun h13 => evS true d 87 14 [(0, .ref 31), (1, .int x0_1), (2, .int (x0_2 + (1 : Int32)))] [] h13)))) := by
  obtain ⟨d, rfl⟩ : ∃ e, d = e + 4 := ⟨d - 4, by omega⟩
  refine (es_st 7 (pc' := 28) (L' := [(0, .ref 31), (1, .int x0_1), (2, .int x0_2)]) (S' := [.int ((Int32.ofNat (sW h 94).length) / (8 : Int32)), .int x0_2]) (h' := h) rfl).trans ?_
  refine (is_ge (t := 82) rfl rfl rfl).trans (if_cg ?_ ?_)
  · refine (es_st 15 (pc' := 110) (L' := [(0, .ref 31), (1, .int x0_1), (2, .int x0_2)]) (S' := [.int ((Int32.ofNat (sW h 98).length) / (4 : Int32)), .int (((7 : Int32) * (sF h 31 3)) + (5 : Int32)), .ref 96]) (h' := h) rfl).trans ?_
    refine (es_ob (o := rSet h 96 (((7 : Int32) * (sF h 31 3)) + (5 : Int32)) ((Int32.ofNat (sW h 98).length) / (4 : Int32))) (pc' := 113) (L' := [(0, .ref 31), (1, .int x0_1), (2, .int x0_2)]) (S' := fun z => []) (h' := fun z => z) rfl rfl rfl).trans (ob_cg fun h1 => ?_)
    exact es_fin rfl rfl rfl
  · refine (es_st 4 (pc' := 37) (L' := [(0, .ref 31), (1, .int x0_1), (2, .int x0_2)]) (S' := [.int x0_2, .ref 93, .ref 31]) (h' := h) rfl).trans ?_
    refine (es_cI (b := true) (k' := 139) (pc' := 40) (as := [.ref 93, .int x0_2]) (S' := [.ref 31]) (L' := [(0, .ref 31), (1, .int x0_1), (2, .int x0_2)]) (h' := h) rfl rfl rfl rfl rfl).trans (kI_cg fun x3 h2 => ?_)
    refine (zs_eq (t := 56) rfl rfl rfl).trans (if_cg ?_ ?_)
    · refine (es_st 7 (pc' := 70) (L' := [(0, .ref 31), (1, .int x0_1), (2, .int x0_2)]) (S' := [.int (6 : Int32), .int x0_2, .ref 93, .int (33 : Int32), .int (1 : Int32), .ref 31]) (h' := h2) rfl).trans ?_
      refine (es_cI (b := true) (k' := 136) (pc' := 73) (as := [.ref 93, .int x0_2, .int (6 : Int32)]) (S' := [.int (33 : Int32), .int (1 : Int32), .ref 31]) (L' := [(0, .ref 31), (1, .int x0_1), (2, .int x0_2)]) (h' := h2) rfl rfl rfl rfl rfl).trans (kI_cg fun x5 h4 => ?_)
      refine (es_cV (b := true) (k' := 49) (pc' := 76) (as := [.ref 31, .int (1 : Int32), .int (33 : Int32), .int x5]) (S' := []) (L' := [(0, .ref 31), (1, .int x0_1), (2, .int x0_2)]) (h' := h4) rfl rfl rfl rfl rfl).trans (kV_cg fun h6 => ?_)
      refine (es_st 2 (pc' := 14) (L' := [(2, .int (x0_2 + (1 : Int32))), (0, .ref 31), (1, .int x0_1)]) (S' := []) (h' := h6) rfl).trans ?_
      exact es_cut rfl rfl rfl
    · refine (es_st 5 (pc' := 50) (L' := [(0, .ref 31), (1, .int x0_1), (2, .int x0_2)]) (S' := [.int (x0_2 - x0_1), .ref 38, .ref 31]) (h' := h2) rfl).trans ?_
      refine (es_ob (o := rAt h2 38 (x0_2 - x0_1)) (pc' := 53) (L' := [(0, .ref 31), (1, .int x0_1), (2, .int x0_2)]) (S' := fun z => [.int z, .ref 31]) (h' := fun z => h2) rfl rfl rfl).trans (ob_cg fun x7 => ?_)
      refine (zs_le (t := 60) rfl rfl rfl).trans (if_cg ?_ ?_)
      · refine (es_st 6 (pc' := 70) (L' := [(0, .ref 31), (1, .int x0_1), (2, .int x0_2)]) (S' := [.int (6 : Int32), .int x0_2, .ref 93, .int (33 : Int32), .int (0 : Int32), .ref 31]) (h' := h2) rfl).trans ?_
        refine (es_cI (b := true) (k' := 136) (pc' := 73) (as := [.ref 93, .int x0_2, .int (6 : Int32)]) (S' := [.int (33 : Int32), .int (0 : Int32), .ref 31]) (L' := [(0, .ref 31), (1, .int x0_1), (2, .int x0_2)]) (h' := h2) rfl rfl rfl rfl rfl).trans (kI_cg fun x9 h8 => ?_)
        refine (es_cV (b := true) (k' := 49) (pc' := 76) (as := [.ref 31, .int (0 : Int32), .int (33 : Int32), .int x9]) (S' := []) (L' := [(0, .ref 31), (1, .int x0_1), (2, .int x0_2)]) (h' := h8) rfl rfl rfl rfl rfl).trans (kV_cg fun h10 => ?_)
        refine (es_st 2 (pc' := 14) (L' := [(2, .int (x0_2 + (1 : Int32))), (0, .ref 31), (1, .int x0_1)]) (S' := []) (h' := h10) rfl).trans ?_
        exact es_cut rfl rfl rfl
      · refine (es_st 7 (pc' := 70) (L' := [(0, .ref 31), (1, .int x0_1), (2, .int x0_2)]) (S' := [.int (6 : Int32), .int x0_2, .ref 93, .int (33 : Int32), .int (1 : Int32), .ref 31]) (h' := h2) rfl).trans ?_
        refine (es_cI (b := true) (k' := 136) (pc' := 73) (as := [.ref 93, .int x0_2, .int (6 : Int32)]) (S' := [.int (33 : Int32), .int (1 : Int32), .ref 31]) (L' := [(0, .ref 31), (1, .int x0_1), (2, .int x0_2)]) (h' := h2) rfl rfl rfl rfl rfl).trans (kI_cg fun x12 h11 => ?_)
        refine (es_cV (b := true) (k' := 49) (pc' := 76) (as := [.ref 31, .int (1 : Int32), .int (33 : Int32), .int x12]) (S' := []) (L' := [(0, .ref 31), (1, .int x0_1), (2, .int x0_2)]) (h' := h11) rfl rfl rfl rfl rfl).trans (kV_cg fun h13 => ?_)
        refine (es_st 2 (pc' := 14) (L' := [(2, .int (x0_2 + (1 : Int32))), (0, .ref 31), (1, .int x0_1)]) (S' := []) (h' := h13) rfl).trans ?_
        exact es_cut rfl rfl rfl
theorem sX5_make_0 (B : Bool) (d : Nat) (hd : 1 ≤ d) (h : SG) : mS B d 95 [.ref 92] h = kV (mS B (d - 1) 96 [.ref 92] h) (fun h1 => kV (mS B (d - 1) 98 [.ref 92] h1) (fun h2 => kV (mS B (d - 1) 101 [.ref 92] h2) (fun h3 => kV (mS B (d - 1) 103 [.ref 92] h3) (fun h4 => kV (mS B (d - 1) 111 [.ref 92] h4) (fun h5 => kV (mS B (d - 1) 114 [.ref 92] h5) (fun h6 => kV (mS B (d - 1) 117 [.ref 92] h6) (fun h7 => kV (mS B (d - 1) 121 [.ref 92] h7) (fun h8 => some (.inl none, h8))))))))) := by
  obtain ⟨d, rfl⟩ : ∃ e, d = e + 1 := ⟨d - 1, by omega⟩
  show evS B (d + 1) 95 0 [(0, .ref 92)] [] h = _
  refine (es_st 1 (pc' := 1) (L' := [(0, .ref 92)]) (S' := [.ref 92]) (h' := h) rfl).trans ?_
  refine (es_cV (b := true) (k' := 96) (pc' := 4) (as := [.ref 92]) (S' := []) (L' := [(0, .ref 92)]) (h' := h) rfl rfl rfl rfl rfl).trans (kV_cg fun h1 => ?_)
  refine (es_st 1 (pc' := 5) (L' := [(0, .ref 92)]) (S' := [.ref 92]) (h' := h1) rfl).trans ?_
  refine (es_cV (b := true) (k' := 98) (pc' := 8) (as := [.ref 92]) (S' := []) (L' := [(0, .ref 92)]) (h' := h1) rfl rfl rfl rfl rfl).trans (kV_cg fun h2 => ?_)
  refine (es_st 1 (pc' := 9) (L' := [(0, .ref 92)]) (S' := [.ref 92]) (h' := h2) rfl).trans ?_
  refine (es_cV (b := true) (k' := 101) (pc' := 12) (as := [.ref 92]) (S' := []) (L' := [(0, .ref 92)]) (h' := h2) rfl rfl rfl rfl rfl).trans (kV_cg fun h3 => ?_)
  refine (es_st 1 (pc' := 13) (L' := [(0, .ref 92)]) (S' := [.ref 92]) (h' := h3) rfl).trans ?_
  refine (es_cV (b := true) (k' := 103) (pc' := 16) (as := [.ref 92]) (S' := []) (L' := [(0, .ref 92)]) (h' := h3) rfl rfl rfl rfl rfl).trans (kV_cg fun h4 => ?_)
  refine (es_st 1 (pc' := 17) (L' := [(0, .ref 92)]) (S' := [.ref 92]) (h' := h4) rfl).trans ?_
  refine (es_cV (b := true) (k' := 111) (pc' := 20) (as := [.ref 92]) (S' := []) (L' := [(0, .ref 92)]) (h' := h4) rfl rfl rfl rfl rfl).trans (kV_cg fun h5 => ?_)
  refine (es_st 1 (pc' := 21) (L' := [(0, .ref 92)]) (S' := [.ref 92]) (h' := h5) rfl).trans ?_
  refine (es_cV (b := true) (k' := 114) (pc' := 24) (as := [.ref 92]) (S' := []) (L' := [(0, .ref 92)]) (h' := h5) rfl rfl rfl rfl rfl).trans (kV_cg fun h6 => ?_)
  refine (es_st 1 (pc' := 25) (L' := [(0, .ref 92)]) (S' := [.ref 92]) (h' := h6) rfl).trans ?_
  refine (es_cV (b := true) (k' := 117) (pc' := 28) (as := [.ref 92]) (S' := []) (L' := [(0, .ref 92)]) (h' := h6) rfl rfl rfl rfl rfl).trans (kV_cg fun h7 => ?_)
  refine (es_st 1 (pc' := 29) (L' := [(0, .ref 92)]) (S' := [.ref 92]) (h' := h7) rfl).trans ?_
  refine (es_cV (b := true) (k' := 121) (pc' := 32) (as := [.ref 92]) (S' := []) (L' := [(0, .ref 92)]) (h' := h7) rfl rfl rfl rfl rfl).trans (kV_cg fun h8 => ?_)
  exact es_fin rfl rfl rfl
theorem sX5_add_0 (B : Bool) (d : Nat) (hd : 4 ≤ d) (h : SG) : mS B d 96 [.ref 92] h = ob (pSz h 127 (0 : Int32)) (fun h1 => evS B d 96 10 [(0, .ref 92), (1, .int (0 : Int32))] [] h1) := by
  obtain ⟨d, rfl⟩ : ∃ e, d = e + 4 := ⟨d - 4, by omega⟩
  show evS B (d + 4) 96 0 [(0, .ref 92)] [] h = _
  refine (es_st 3 (pc' := 5) (L' := [(0, .ref 92)]) (S' := [.int (0 : Int32), .ref 127]) (h' := h) rfl).trans ?_
  refine (es_ob (o := pSz h 127 (0 : Int32)) (pc' := 8) (L' := [(0, .ref 92)]) (S' := fun z => []) (h' := fun z => z) rfl rfl rfl).trans (ob_cg fun h1 => ?_)
  refine (es_st 2 (pc' := 10) (L' := [(1, .int (0 : Int32)), (0, .ref 92)]) (S' := []) (h' := h1) rfl).trans ?_
  exact es_cut rfl rfl rfl
theorem sX5_add_10 (B : Bool) (d : Nat) (hd : 4 ≤ d) (h : SG) (x0_1 : Int32) : evS B d 96 10 [(0, .ref 92), (1, .int x0_1)] [] h = kI (mS B (d - 1) 130 [.ref 93] h) (fun x2 h1 => if x2 ≤ x0_1 then some (.inl none, h1) else kI (mS B (d - 1) 134 [.ref 93, .int x0_1] h1) (fun x4 h3 => evS B d 96 35 [(0, .ref 92), (1, .int x0_1), (2, .int (0 : Int32)), (3, .int (0 : Int32)), (4, .int x4)] [] h3)) := by
  obtain ⟨d, rfl⟩ : ∃ e, d = e + 4 := ⟨d - 4, by omega⟩
  refine (es_st 3 (pc' := 15) (L' := [(0, .ref 92), (1, .int x0_1)]) (S' := [.ref 93, .int x0_1]) (h' := h) rfl).trans ?_
  refine (es_cI (b := true) (k' := 130) (pc' := 18) (as := [.ref 93]) (S' := [.int x0_1]) (L' := [(0, .ref 92), (1, .int x0_1)]) (h' := h) rfl rfl rfl rfl rfl).trans (kI_cg fun x2 h1 => ?_)
  refine (is_ge (t := 347) rfl rfl rfl).trans (if_cg ?_ ?_)
  · exact es_fin rfl rfl rfl
  · refine (es_st 7 (pc' := 30) (L' := [(3, .int (0 : Int32)), (2, .int (0 : Int32)), (0, .ref 92), (1, .int x0_1)]) (S' := [.int x0_1, .ref 93]) (h' := h1) rfl).trans ?_
    refine (es_cI (b := true) (k' := 134) (pc' := 33) (as := [.ref 93, .int x0_1]) (S' := []) (L' := [(3, .int (0 : Int32)), (2, .int (0 : Int32)), (0, .ref 92), (1, .int x0_1)]) (h' := h1) rfl rfl rfl rfl rfl).trans (kI_cg fun x4 h3 => ?_)
    refine (es_st 1 (pc' := 35) (L' := [(4, .int x4), (3, .int (0 : Int32)), (2, .int (0 : Int32)), (0, .ref 92), (1, .int x0_1)]) (S' := []) (h' := h3) rfl).trans ?_
    exact es_cut rfl rfl rfl
theorem sX5_add_35 (B : Bool) (d : Nat) (hd : 4 ≤ d) (h : SG) (x0_1 : Int32) (x0_2 : Int32) (x0_3 : Int32) (x0_4 : Int32) : evS B d 96 35 [(0, .ref 92), (1, .int x0_1), (2, .int x0_2), (3, .int x0_3), (4, .int x0_4)] [] h = kI (mS B (d - 1) 135 [.ref 93, .int x0_1] h) (fun x2 h1 => if x2 ≤ x0_4 then kI (mS B (d - 1) 97 [.int x0_2, .int (0 : Int32)] h1) (fun x4 h3 => ob (rAt h3 96 (((7 : Int32) * x0_1) + (6 : Int32))) (fun x5 => kI (mS B (d - 1) 142 [.ref 93, .int x0_1] h3) (fun x7 h6 => evS B d 96 160 [(0, .ref 92), (1, .int x0_1), (2, .int x4), (3, .int x0_3), (4, .int (0 : Int32)), (5, .int x5), (6, .int x7)] [] h6))) else kI (mS B (d - 1) 138 [.ref 93, .int x0_4] h1) (fun x9 h8 => if x9 = (5 : Int32) then evS B d 96 35 [(0, .ref 92), (1, .int x0_1), (2, .int x0_2), (3, .int x0_3), (4, .int (x0_4 + (1 : Int32)))] [] h8 else ob (rSet h8 94 (((8 : Int32) * x0_4) + (7 : Int32)) x0_2) (fun h10 => kI (mS B (d - 1) 140 [.ref 93, .int x0_4] h10) (fun x12 h11 => if x12 = 0 then kI (mS B (d - 1) 97 [.int x0_3, .int (0 : Int32)] h11) (fun x14 h13 => evS B d 96 35 [(0, .ref 92), (1, .int x0_1), (2, .int (x0_2 + (1 : Int32))), (3, .int x14), (4, .int (x0_4 + (1 : Int32)))] [] h13) else kI (mS B (d - 1) 137 [.ref 93, .int x0_4] h11) (fun x16 h15 => kI (mS B (d - 1) 97 [.int x0_3, .int x16] h15) (fun x18 h17 => evS B d 96 35 [(0, .ref 92), (1, .int x0_1), (2, .int (x0_2 + (1 : Int32))), (3, .int x18), (4, .int (x0_4 + (1 : Int32)))] [] h17)))))) := by
  obtain ⟨d, rfl⟩ : ∃ e, d = e + 4 := ⟨d - 4, by omega⟩
  refine (es_st 4 (pc' := 42) (L' := [(0, .ref 92), (1, .int x0_1), (2, .int x0_2), (3, .int x0_3), (4, .int x0_4)]) (S' := [.int x0_1, .ref 93, .int x0_4]) (h' := h) rfl).trans ?_
  refine (es_cI (b := true) (k' := 135) (pc' := 45) (as := [.ref 93, .int x0_1]) (S' := [.int x0_4]) (L' := [(0, .ref 92), (1, .int x0_1), (2, .int x0_2), (3, .int x0_3), (4, .int x0_4)]) (h' := h) rfl rfl rfl rfl rfl).trans (kI_cg fun x2 h1 => ?_)
  refine (is_ge (t := 122) rfl rfl rfl).trans (if_cg ?_ ?_)
  · refine (es_st 4 (pc' := 127) (L' := [(4, .int (0 : Int32)), (0, .ref 92), (1, .int x0_1), (2, .int x0_2), (3, .int x0_3)]) (S' := [.int (0 : Int32), .int x0_2]) (h' := h1) rfl).trans ?_
    refine (es_cI (b := true) (k' := 97) (pc' := 130) (as := [.int x0_2, .int (0 : Int32)]) (S' := []) (L' := [(4, .int (0 : Int32)), (0, .ref 92), (1, .int x0_1), (2, .int x0_2), (3, .int x0_3)]) (h' := h1) rfl rfl rfl rfl rfl).trans (kI_cg fun x4 h3 => ?_)
    refine (es_st 9 (pc' := 145) (L' := [(2, .int x4), (4, .int (0 : Int32)), (0, .ref 92), (1, .int x0_1), (3, .int x0_3)]) (S' := [.int (((7 : Int32) * x0_1) + (6 : Int32)), .ref 96]) (h' := h3) rfl).trans ?_
    refine (es_ob (o := rAt h3 96 (((7 : Int32) * x0_1) + (6 : Int32))) (pc' := 148) (L' := [(2, .int x4), (4, .int (0 : Int32)), (0, .ref 92), (1, .int x0_1), (3, .int x0_3)]) (S' := fun z => [.int z]) (h' := fun z => h3) rfl rfl rfl).trans (ob_cg fun x5 => ?_)
    refine (es_st 4 (pc' := 155) (L' := [(5, .int x5), (2, .int x4), (4, .int (0 : Int32)), (0, .ref 92), (1, .int x0_1), (3, .int x0_3)]) (S' := [.int x0_1, .ref 93]) (h' := h3) rfl).trans ?_
    refine (es_cI (b := true) (k' := 142) (pc' := 158) (as := [.ref 93, .int x0_1]) (S' := []) (L' := [(5, .int x5), (2, .int x4), (4, .int (0 : Int32)), (0, .ref 92), (1, .int x0_1), (3, .int x0_3)]) (h' := h3) rfl rfl rfl rfl rfl).trans (kI_cg fun x7 h6 => ?_)
    refine (es_st 1 (pc' := 160) (L' := [(6, .int x7), (5, .int x5), (2, .int x4), (4, .int (0 : Int32)), (0, .ref 92), (1, .int x0_1), (3, .int x0_3)]) (S' := []) (h' := h6) rfl).trans ?_
    exact es_cut rfl rfl rfl
  · refine (es_st 3 (pc' := 54) (L' := [(0, .ref 92), (1, .int x0_1), (2, .int x0_2), (3, .int x0_3), (4, .int x0_4)]) (S' := [.int x0_4, .ref 93]) (h' := h1) rfl).trans ?_
    refine (es_cI (b := true) (k' := 138) (pc' := 57) (as := [.ref 93, .int x0_4]) (S' := []) (L' := [(0, .ref 92), (1, .int x0_1), (2, .int x0_2), (3, .int x0_3), (4, .int x0_4)]) (h' := h1) rfl rfl rfl rfl rfl).trans (kI_cg fun x9 h8 => ?_)
    refine (es_st 1 (pc' := 58) (L' := [(0, .ref 92), (1, .int x0_1), (2, .int x0_2), (3, .int x0_3), (4, .int x0_4)]) (S' := [.int (5 : Int32), .int x9]) (h' := h8) rfl).trans ?_
    refine (is_ne (t := 64) rfl rfl rfl).trans (if_cg ?_ ?_)
    · refine (es_st 3 (pc' := 35) (L' := [(4, .int (x0_4 + (1 : Int32))), (0, .ref 92), (1, .int x0_1), (2, .int x0_2), (3, .int x0_3)]) (S' := []) (h' := h8) rfl).trans ?_
      exact es_cut rfl rfl rfl
    · refine (es_st 10 (pc' := 83) (L' := [(2, .int (x0_2 + (1 : Int32))), (0, .ref 92), (1, .int x0_1), (3, .int x0_3), (4, .int x0_4)]) (S' := [.int x0_2, .int (((8 : Int32) * x0_4) + (7 : Int32)), .ref 94]) (h' := h8) rfl).trans ?_
      refine (es_ob (o := rSet h8 94 (((8 : Int32) * x0_4) + (7 : Int32)) x0_2) (pc' := 86) (L' := [(2, .int (x0_2 + (1 : Int32))), (0, .ref 92), (1, .int x0_1), (3, .int x0_3), (4, .int x0_4)]) (S' := fun z => []) (h' := fun z => z) rfl rfl rfl).trans (ob_cg fun h10 => ?_)
      refine (es_st 4 (pc' := 93) (L' := [(2, .int (x0_2 + (1 : Int32))), (0, .ref 92), (1, .int x0_1), (3, .int x0_3), (4, .int x0_4)]) (S' := [.int x0_4, .ref 93, .int x0_3]) (h' := h10) rfl).trans ?_
      refine (es_cI (b := true) (k' := 140) (pc' := 96) (as := [.ref 93, .int x0_4]) (S' := [.int x0_3]) (L' := [(2, .int (x0_2 + (1 : Int32))), (0, .ref 92), (1, .int x0_1), (3, .int x0_3), (4, .int x0_4)]) (h' := h10) rfl rfl rfl rfl rfl).trans (kI_cg fun x12 h11 => ?_)
      refine (zs_eq (t := 111) rfl rfl rfl).trans (if_cg ?_ ?_)
      · refine (es_st 1 (pc' := 112) (L' := [(2, .int (x0_2 + (1 : Int32))), (0, .ref 92), (1, .int x0_1), (3, .int x0_3), (4, .int x0_4)]) (S' := [.int (0 : Int32), .int x0_3]) (h' := h11) rfl).trans ?_
        refine (es_cI (b := true) (k' := 97) (pc' := 115) (as := [.int x0_3, .int (0 : Int32)]) (S' := []) (L' := [(2, .int (x0_2 + (1 : Int32))), (0, .ref 92), (1, .int x0_1), (3, .int x0_3), (4, .int x0_4)]) (h' := h11) rfl rfl rfl rfl rfl).trans (kI_cg fun x14 h13 => ?_)
        refine (es_st 3 (pc' := 35) (L' := [(4, .int (x0_4 + (1 : Int32))), (3, .int x14), (2, .int (x0_2 + (1 : Int32))), (0, .ref 92), (1, .int x0_1)]) (S' := []) (h' := h13) rfl).trans ?_
        exact es_cut rfl rfl rfl
      · refine (es_st 3 (pc' := 105) (L' := [(2, .int (x0_2 + (1 : Int32))), (0, .ref 92), (1, .int x0_1), (3, .int x0_3), (4, .int x0_4)]) (S' := [.int x0_4, .ref 93, .int x0_3]) (h' := h11) rfl).trans ?_
        refine (es_cI (b := true) (k' := 137) (pc' := 108) (as := [.ref 93, .int x0_4]) (S' := [.int x0_3]) (L' := [(2, .int (x0_2 + (1 : Int32))), (0, .ref 92), (1, .int x0_1), (3, .int x0_3), (4, .int x0_4)]) (h' := h11) rfl rfl rfl rfl rfl).trans (kI_cg fun x16 h15 => ?_)
        refine (es_st 1 (pc' := 112) (L' := [(2, .int (x0_2 + (1 : Int32))), (0, .ref 92), (1, .int x0_1), (3, .int x0_3), (4, .int x0_4)]) (S' := [.int x16, .int x0_3]) (h' := h15) rfl).trans ?_
        refine (es_cI (b := true) (k' := 97) (pc' := 115) (as := [.int x0_3, .int x16]) (S' := []) (L' := [(2, .int (x0_2 + (1 : Int32))), (0, .ref 92), (1, .int x0_1), (3, .int x0_3), (4, .int x0_4)]) (h' := h15) rfl rfl rfl rfl rfl).trans (kI_cg fun x18 h17 => ?_)
        refine (es_st 3 (pc' := 35) (L' := [(4, .int (x0_4 + (1 : Int32))), (3, .int x18), (2, .int (x0_2 + (1 : Int32))), (0, .ref 92), (1, .int x0_1)]) (S' := []) (h' := h17) rfl).trans ?_
        exact es_cut rfl rfl rfl
theorem sX5_add_160 (B : Bool) (d : Nat) (hd : 4 ≤ d) (h : SG) (x0_1 : Int32) (x0_2 : Int32) (x0_3 : Int32) (x0_4 : Int32) (x0_5 : Int32) (x0_6 : Int32) : evS B d 96 160 [(0, .ref 92), (1, .int x0_1), (2, .int x0_2), (3, .int x0_3), (4, .int x0_4), (5, .int x0_5), (6, .int x0_6)] [] h = kI (mS B (d - 1) 143 [.ref 93, .int x0_1] h) (fun x2 h1 => if x2 ≤ x0_6 then ob (rAdd h1 127 x0_4) (fun q3 => ob (rAdd q3.2 127 x0_2) (fun q4 => ob (rAdd q4.2 127 x0_3) (fun q5 => ob (rAdd q5.2 127 x0_5) (fun q6 => evS B d 96 10 [(0, .ref 92), (1, .int (x0_1 + (1 : Int32)))] [] q6.2)))) else ob (rAt h1 98 ((4 : Int32) * x0_6)) (fun x7 => if x7 = (2 : Int32) then ob (rAt h1 98 (((4 : Int32) * x0_6) + (1 : Int32))) (fun x8 => kI (mS B (d - 1) 136 [.ref 93, .int x8, .int (7 : Int32)] h1) (fun x10 h9 => ob (rAt h9 127 ((4 : Int32) * x10)) (fun x11 => kI (mS B (d - 1) 97 [.int x0_4, .int ((1 : Int32) + x11)] h9) (fun x13 h12 => ob (rAt h12 127 (((4 : Int32) * x10) + (1 : Int32))) (fun x14 => kI (mS B (d - 1) 97 [.int x0_2, .int x14] h12) (fun x16 h15 => ob (rAt h15 127 (((4 : Int32) * x10) + (2 : Int32))) (fun x17 => kI (mS B (d - 1) 97 [.int x0_3, .int x17] h15) (fun x19 h18 => ob (rAt h18 127 (((4 : Int32) * x10) + (3 : Int32))) (fun x20 => kI (mS B (d - 1) 97 [.int x0_5, .int x20] h18) (fun x22 h21 => evS B d 96 160 [(0, .ref 92), (1, .int x0_1), (2, .int x16), (3, .int x19), (4, .int x13), (5, .int x22), (6, .int (x0_6 + (1 : Int32)))] [] h21)))))))))) else evS B d 96 160 [(0, .ref 92), (1, .int x0_1), (2, .int x0_2), (3, .int x0_3), (4, .int x0_4), (5, .int x0_5), (6, .int (x0_6 + (1 : Int32)))] [] h1)) := by
  obtain ⟨d, rfl⟩ : ∃ e, d = e + 4 := ⟨d - 4, by omega⟩
  refine (es_st 4 (pc' := 167) (L' := [(0, .ref 92), (1, .int x0_1), (2, .int x0_2), (3, .int x0_3), (4, .int x0_4), (5, .int x0_5), (6, .int x0_6)]) (S' := [.int x0_1, .ref 93, .int x0_6]) (h' := h) rfl).trans ?_
  refine (es_cI (b := true) (k' := 143) (pc' := 170) (as := [.ref 93, .int x0_1]) (S' := [.int x0_6]) (L' := [(0, .ref 92), (1, .int x0_1), (2, .int x0_2), (3, .int x0_3), (4, .int x0_4), (5, .int x0_5), (6, .int x0_6)]) (h' := h) rfl rfl rfl rfl rfl).trans (kI_cg fun x2 h1 => ?_)
  refine (is_ge (t := 303) rfl rfl rfl).trans (if_cg ?_ ?_)
  · refine (es_st 3 (pc' := 309) (L' := [(0, .ref 92), (1, .int x0_1), (2, .int x0_2), (3, .int x0_3), (4, .int x0_4), (5, .int x0_5), (6, .int x0_6)]) (S' := [.int x0_4, .ref 127]) (h' := h1) rfl).trans ?_
    refine (es_ob (o := rAdd h1 127 x0_4) (pc' := 312) (L' := [(0, .ref 92), (1, .int x0_1), (2, .int x0_2), (3, .int x0_3), (4, .int x0_4), (5, .int x0_5), (6, .int x0_6)]) (S' := fun z => [.int z.1]) (h' := fun z => z.2) rfl rfl rfl).trans (ob_cg fun q3 => ?_)
    refine (es_st 4 (pc' := 318) (L' := [(0, .ref 92), (1, .int x0_1), (2, .int x0_2), (3, .int x0_3), (4, .int x0_4), (5, .int x0_5), (6, .int x0_6)]) (S' := [.int x0_2, .ref 127]) (h' := q3.2) rfl).trans ?_
    refine (es_ob (o := rAdd q3.2 127 x0_2) (pc' := 321) (L' := [(0, .ref 92), (1, .int x0_1), (2, .int x0_2), (3, .int x0_3), (4, .int x0_4), (5, .int x0_5), (6, .int x0_6)]) (S' := fun z => [.int z.1]) (h' := fun z => z.2) rfl rfl rfl).trans (ob_cg fun q4 => ?_)
    refine (es_st 4 (pc' := 327) (L' := [(0, .ref 92), (1, .int x0_1), (2, .int x0_2), (3, .int x0_3), (4, .int x0_4), (5, .int x0_5), (6, .int x0_6)]) (S' := [.int x0_3, .ref 127]) (h' := q4.2) rfl).trans ?_
    refine (es_ob (o := rAdd q4.2 127 x0_3) (pc' := 330) (L' := [(0, .ref 92), (1, .int x0_1), (2, .int x0_2), (3, .int x0_3), (4, .int x0_4), (5, .int x0_5), (6, .int x0_6)]) (S' := fun z => [.int z.1]) (h' := fun z => z.2) rfl rfl rfl).trans (ob_cg fun q5 => ?_)
    refine (es_st 4 (pc' := 337) (L' := [(0, .ref 92), (1, .int x0_1), (2, .int x0_2), (3, .int x0_3), (4, .int x0_4), (5, .int x0_5), (6, .int x0_6)]) (S' := [.int x0_5, .ref 127]) (h' := q5.2) rfl).trans ?_
    refine (es_ob (o := rAdd q5.2 127 x0_5) (pc' := 340) (L' := [(0, .ref 92), (1, .int x0_1), (2, .int x0_2), (3, .int x0_3), (4, .int x0_4), (5, .int x0_5), (6, .int x0_6)]) (S' := fun z => [.int z.1]) (h' := fun z => z.2) rfl rfl rfl).trans (ob_cg fun q6 => ?_)
    refine (es_st 3 (pc' := 10) (L' := [(1, .int (x0_1 + (1 : Int32))), (0, .ref 92), (2, .int x0_2), (3, .int x0_3), (4, .int x0_4), (5, .int x0_5), (6, .int x0_6)]) (S' := []) (h' := q6.2) rfl).trans ?_
    exact es_cut rfl rfl rfl
  · refine (es_st 6 (pc' := 184) (L' := [(0, .ref 92), (1, .int x0_1), (2, .int x0_2), (3, .int x0_3), (4, .int x0_4), (5, .int x0_5), (6, .int x0_6)]) (S' := [.int ((4 : Int32) * x0_6), .ref 98]) (h' := h1) rfl).trans ?_
    refine (es_ob (o := rAt h1 98 ((4 : Int32) * x0_6)) (pc' := 187) (L' := [(0, .ref 92), (1, .int x0_1), (2, .int x0_2), (3, .int x0_3), (4, .int x0_4), (5, .int x0_5), (6, .int x0_6)]) (S' := fun z => [.int z]) (h' := fun z => h1) rfl rfl rfl).trans (ob_cg fun x7 => ?_)
    refine (es_st 1 (pc' := 188) (L' := [(0, .ref 92), (1, .int x0_1), (2, .int x0_2), (3, .int x0_3), (4, .int x0_4), (5, .int x0_5), (6, .int x0_6)]) (S' := [.int (2 : Int32), .int x7]) (h' := h1) rfl).trans ?_
    refine (is_eq (t := 194) rfl rfl rfl).trans (if_cg ?_ ?_)
    · refine (es_st 10 (pc' := 211) (L' := [(0, .ref 92), (1, .int x0_1), (2, .int x0_2), (3, .int x0_3), (4, .int x0_4), (5, .int x0_5), (6, .int x0_6)]) (S' := [.int (((4 : Int32) * x0_6) + (1 : Int32)), .ref 98, .ref 93]) (h' := h1) rfl).trans ?_
      refine (es_ob (o := rAt h1 98 (((4 : Int32) * x0_6) + (1 : Int32))) (pc' := 214) (L' := [(0, .ref 92), (1, .int x0_1), (2, .int x0_2), (3, .int x0_3), (4, .int x0_4), (5, .int x0_5), (6, .int x0_6)]) (S' := fun z => [.int z, .ref 93]) (h' := fun z => h1) rfl rfl rfl).trans (ob_cg fun x8 => ?_)
      refine (es_st 1 (pc' := 216) (L' := [(0, .ref 92), (1, .int x0_1), (2, .int x0_2), (3, .int x0_3), (4, .int x0_4), (5, .int x0_5), (6, .int x0_6)]) (S' := [.int (7 : Int32), .int x8, .ref 93]) (h' := h1) rfl).trans ?_
      refine (es_cI (b := true) (k' := 136) (pc' := 219) (as := [.ref 93, .int x8, .int (7 : Int32)]) (S' := []) (L' := [(0, .ref 92), (1, .int x0_1), (2, .int x0_2), (3, .int x0_3), (4, .int x0_4), (5, .int x0_5), (6, .int x0_6)]) (h' := h1) rfl rfl rfl rfl rfl).trans (kI_cg fun x10 h9 => ?_)
      refine (es_st 8 (pc' := 232) (L' := [(7, .int x10), (0, .ref 92), (1, .int x0_1), (2, .int x0_2), (3, .int x0_3), (4, .int x0_4), (5, .int x0_5), (6, .int x0_6)]) (S' := [.int ((4 : Int32) * x10), .ref 127, .int (1 : Int32), .int x0_4]) (h' := h9) rfl).trans ?_
      refine (es_ob (o := rAt h9 127 ((4 : Int32) * x10)) (pc' := 235) (L' := [(7, .int x10), (0, .ref 92), (1, .int x0_1), (2, .int x0_2), (3, .int x0_3), (4, .int x0_4), (5, .int x0_5), (6, .int x0_6)]) (S' := fun z => [.int z, .int (1 : Int32), .int x0_4]) (h' := fun z => h9) rfl rfl rfl).trans (ob_cg fun x11 => ?_)
      refine (es_st 1 (pc' := 236) (L' := [(7, .int x10), (0, .ref 92), (1, .int x0_1), (2, .int x0_2), (3, .int x0_3), (4, .int x0_4), (5, .int x0_5), (6, .int x0_6)]) (S' := [.int ((1 : Int32) + x11), .int x0_4]) (h' := h9) rfl).trans ?_
      refine (es_cI (b := true) (k' := 97) (pc' := 239) (as := [.int x0_4, .int ((1 : Int32) + x11)]) (S' := []) (L' := [(7, .int x10), (0, .ref 92), (1, .int x0_1), (2, .int x0_2), (3, .int x0_3), (4, .int x0_4), (5, .int x0_5), (6, .int x0_6)]) (h' := h9) rfl rfl rfl rfl rfl).trans (kI_cg fun x13 h12 => ?_)
      refine (es_st 9 (pc' := 252) (L' := [(4, .int x13), (7, .int x10), (0, .ref 92), (1, .int x0_1), (2, .int x0_2), (3, .int x0_3), (5, .int x0_5), (6, .int x0_6)]) (S' := [.int (((4 : Int32) * x10) + (1 : Int32)), .ref 127, .int x0_2]) (h' := h12) rfl).trans ?_
      refine (es_ob (o := rAt h12 127 (((4 : Int32) * x10) + (1 : Int32))) (pc' := 255) (L' := [(4, .int x13), (7, .int x10), (0, .ref 92), (1, .int x0_1), (2, .int x0_2), (3, .int x0_3), (5, .int x0_5), (6, .int x0_6)]) (S' := fun z => [.int z, .int x0_2]) (h' := fun z => h12) rfl rfl rfl).trans (ob_cg fun x14 => ?_)
      refine (es_cI (b := true) (k' := 97) (pc' := 258) (as := [.int x0_2, .int x14]) (S' := []) (L' := [(4, .int x13), (7, .int x10), (0, .ref 92), (1, .int x0_1), (2, .int x0_2), (3, .int x0_3), (5, .int x0_5), (6, .int x0_6)]) (h' := h12) rfl rfl rfl rfl rfl).trans (kI_cg fun x16 h15 => ?_)
      refine (es_st 9 (pc' := 270) (L' := [(2, .int x16), (4, .int x13), (7, .int x10), (0, .ref 92), (1, .int x0_1), (3, .int x0_3), (5, .int x0_5), (6, .int x0_6)]) (S' := [.int (((4 : Int32) * x10) + (2 : Int32)), .ref 127, .int x0_3]) (h' := h15) rfl).trans ?_
      refine (es_ob (o := rAt h15 127 (((4 : Int32) * x10) + (2 : Int32))) (pc' := 273) (L' := [(2, .int x16), (4, .int x13), (7, .int x10), (0, .ref 92), (1, .int x0_1), (3, .int x0_3), (5, .int x0_5), (6, .int x0_6)]) (S' := fun z => [.int z, .int x0_3]) (h' := fun z => h15) rfl rfl rfl).trans (ob_cg fun x17 => ?_)
      refine (es_cI (b := true) (k' := 97) (pc' := 276) (as := [.int x0_3, .int x17]) (S' := []) (L' := [(2, .int x16), (4, .int x13), (7, .int x10), (0, .ref 92), (1, .int x0_1), (3, .int x0_3), (5, .int x0_5), (6, .int x0_6)]) (h' := h15) rfl rfl rfl rfl rfl).trans (kI_cg fun x19 h18 => ?_)
      refine (es_st 9 (pc' := 289) (L' := [(3, .int x19), (2, .int x16), (4, .int x13), (7, .int x10), (0, .ref 92), (1, .int x0_1), (5, .int x0_5), (6, .int x0_6)]) (S' := [.int (((4 : Int32) * x10) + (3 : Int32)), .ref 127, .int x0_5]) (h' := h18) rfl).trans ?_
      refine (es_ob (o := rAt h18 127 (((4 : Int32) * x10) + (3 : Int32))) (pc' := 292) (L' := [(3, .int x19), (2, .int x16), (4, .int x13), (7, .int x10), (0, .ref 92), (1, .int x0_1), (5, .int x0_5), (6, .int x0_6)]) (S' := fun z => [.int z, .int x0_5]) (h' := fun z => h18) rfl rfl rfl).trans (ob_cg fun x20 => ?_)
      refine (es_cI (b := true) (k' := 97) (pc' := 295) (as := [.int x0_5, .int x20]) (S' := []) (L' := [(3, .int x19), (2, .int x16), (4, .int x13), (7, .int x10), (0, .ref 92), (1, .int x0_1), (5, .int x0_5), (6, .int x0_6)]) (h' := h18) rfl rfl rfl rfl rfl).trans (kI_cg fun x22 h21 => ?_)
      refine (es_st 3 (pc' := 160) (L' := [(6, .int (x0_6 + (1 : Int32))), (5, .int x22), (3, .int x19), (2, .int x16), (4, .int x13), (7, .int x10), (0, .ref 92), (1, .int x0_1)]) (S' := []) (h' := h21) rfl).trans ?_
      exact es_cut rfl rfl rfl
    · refine (es_st 3 (pc' := 160) (L' := [(6, .int (x0_6 + (1 : Int32))), (0, .ref 92), (1, .int x0_1), (2, .int x0_2), (3, .int x0_3), (4, .int x0_4), (5, .int x0_5)]) (S' := []) (h' := h1) rfl).trans ?_
      exact es_cut rfl rfl rfl
theorem sX5_sum_0 (B : Bool) (d : Nat) (hd : 1 ≤ d) (h : SG) (x0_0 : Int32) (x0_1 : Int32) : mS B d 97 [.int x0_0, .int x0_1] h = some (.inl (some (.int (mnI (100000 : Int32) (x0_0 + x0_1)))), h) := by
  obtain ⟨d, rfl⟩ : ∃ e, d = e + 1 := ⟨d - 1, by omega⟩
  show evS B (d + 1) 97 0 [(0, .int x0_0), (1, .int x0_1)] [] h = _
  refine (es_st 5 (pc' := 8) (L' := [(0, .int x0_0), (1, .int x0_1)]) (S' := [.int (mnI (100000 : Int32) (x0_0 + x0_1))]) (h' := h) rfl).trans ?_
  exact es_fin rfl rfl rfl
theorem sX5_bounds_0 (B : Bool) (d : Nat) (hd : 1 ≤ d) (h : SG) : mS B d 98 [.ref 92] h = kI (mS B (d - 1) 130 [.ref 93] h) (fun x2 h1 => kI (mS B (d - 1) 134 [.ref 93, .int (x2 - (1 : Int32))] h1) (fun x4 h3 => evS B d 98 21 [(0, .ref 92), (1, .int (x2 - (1 : Int32))), (2, .int (0 : Int32)), (3, .int x4)] [] h3)) := by
  obtain ⟨d, rfl⟩ : ∃ e, d = e + 1 := ⟨d - 1, by omega⟩
  show evS B (d + 1) 98 0 [(0, .ref 92)] [] h = _
  refine (es_st 2 (pc' := 4) (L' := [(0, .ref 92)]) (S' := [.ref 93]) (h' := h) rfl).trans ?_
  refine (es_cI (b := true) (k' := 130) (pc' := 7) (as := [.ref 93]) (S' := []) (L' := [(0, .ref 92)]) (h' := h) rfl rfl rfl rfl rfl).trans (kI_cg fun x2 h1 => ?_)
  refine (es_st 8 (pc' := 17) (L' := [(2, .int (0 : Int32)), (1, .int (x2 - (1 : Int32))), (0, .ref 92)]) (S' := [.int (x2 - (1 : Int32)), .ref 93]) (h' := h1) rfl).trans ?_
  refine (es_cI (b := true) (k' := 134) (pc' := 20) (as := [.ref 93, .int (x2 - (1 : Int32))]) (S' := []) (L' := [(2, .int (0 : Int32)), (1, .int (x2 - (1 : Int32))), (0, .ref 92)]) (h' := h1) rfl rfl rfl rfl rfl).trans (kI_cg fun x4 h3 => ?_)
  refine (es_st 1 (pc' := 21) (L' := [(3, .int x4), (2, .int (0 : Int32)), (1, .int (x2 - (1 : Int32))), (0, .ref 92)]) (S' := []) (h' := h3) rfl).trans ?_
  exact es_cut rfl rfl rfl
theorem sX5_bounds_21 (B : Bool) (d : Nat) (hd : 1 ≤ d) (h : SG) (x0_1 : Int32) (x0_2 : Int32) (x0_3 : Int32) : evS B d 98 21 [(0, .ref 92), (1, .int x0_1), (2, .int x0_2), (3, .int x0_3)] [] h = kI (mS B (d - 1) 135 [.ref 93, .int x0_1] h) (fun x2 h1 => if x2 ≤ x0_3 then kI (mS B (d - 1) 99 [.ref 92, .int (0 : Int32)] h1) (fun x4 h3 => if (256 : Int32) < x4 then evS B d 98 84 [(0, .ref 92), (2, .int x0_2)] [.int (0 : Int32), .ref 92] h3 else evS B d 98 84 [(0, .ref 92), (2, .int x0_2)] [.int (1 : Int32), .ref 92] h3) else kI (mS B (d - 1) 138 [.ref 93, .int x0_3] h1) (fun x6 h5 => if x6 = 0 then kI (mS B (d - 1) 137 [.ref 93, .int x0_3] h5) (fun x10 h9 => kI (mS B (d - 1) 97 [.int x0_2, .int x10] h9) (fun x12 h11 => evS B d 98 21 [(0, .ref 92), (1, .int x0_1), (2, .int x12), (3, .int (x0_3 + (1 : Int32)))] [] h11)) else kI (mS B (d - 1) 97 [.int x0_2, .int (0 : Int32)] h5) (fun x8 h7 => evS B d 98 21 [(0, .ref 92), (1, .int x0_1), (2, .int x8), (3, .int (x0_3 + (1 : Int32)))] [] h7))) := by
  obtain ⟨d, rfl⟩ : ∃ e, d = e + 1 := ⟨d - 1, by omega⟩
  refine (es_st 4 (pc' := 27) (L' := [(0, .ref 92), (1, .int x0_1), (2, .int x0_2), (3, .int x0_3)]) (S' := [.int x0_1, .ref 93, .int x0_3]) (h' := h) rfl).trans ?_
  refine (es_cI (b := true) (k' := 135) (pc' := 30) (as := [.ref 93, .int x0_1]) (S' := [.int x0_3]) (L' := [(0, .ref 92), (1, .int x0_1), (2, .int x0_2), (3, .int x0_3)]) (h' := h) rfl rfl rfl rfl rfl).trans (kI_cg fun x2 h1 => ?_)
  refine (is_ge (t := 67) rfl rfl rfl).trans (if_cg ?_ ?_)
  · refine (es_st 3 (pc' := 70) (L' := [(0, .ref 92), (1, .int x0_1), (2, .int x0_2), (3, .int x0_3)]) (S' := [.int (0 : Int32), .ref 92, .ref 92]) (h' := h1) rfl).trans ?_
    refine (es_cI (b := true) (k' := 99) (pc' := 73) (as := [.ref 92, .int (0 : Int32)]) (S' := [.ref 92]) (L' := [(0, .ref 92), (1, .int x0_1), (2, .int x0_2), (3, .int x0_3)]) (h' := h1) rfl rfl rfl rfl rfl).trans (kI_cg fun x4 h3 => ?_)
    refine (es_st 1 (pc' := 76) (L' := [(0, .ref 92), (1, .int x0_1), (2, .int x0_2), (3, .int x0_3)]) (S' := [.int (256 : Int32), .int x4, .ref 92]) (h' := h3) rfl).trans ?_
    refine (is_gt (t := 83) rfl rfl rfl).trans (if_cg ?_ ?_)
    · refine (es_st 1 (pc' := 84) (L' := [(0, .ref 92), (1, .int x0_1), (2, .int x0_2), (3, .int x0_3)]) (S' := [.int (0 : Int32), .ref 92]) (h' := h3) rfl).trans ?_
      exact es_cut rfl rfl rfl
    · refine (es_st 2 (pc' := 84) (L' := [(0, .ref 92), (1, .int x0_1), (2, .int x0_2), (3, .int x0_3)]) (S' := [.int (1 : Int32), .ref 92]) (h' := h3) rfl).trans ?_
      exact es_cut rfl rfl rfl
  · refine (es_st 4 (pc' := 39) (L' := [(0, .ref 92), (1, .int x0_1), (2, .int x0_2), (3, .int x0_3)]) (S' := [.int x0_3, .ref 93, .int x0_2]) (h' := h1) rfl).trans ?_
    refine (es_cI (b := true) (k' := 138) (pc' := 42) (as := [.ref 93, .int x0_3]) (S' := [.int x0_2]) (L' := [(0, .ref 92), (1, .int x0_1), (2, .int x0_2), (3, .int x0_3)]) (h' := h1) rfl rfl rfl rfl rfl).trans (kI_cg fun x6 h5 => ?_)
    refine (zs_ne (t := 56) rfl rfl rfl).trans (if_cg ?_ ?_)
    · refine (es_st 3 (pc' := 50) (L' := [(0, .ref 92), (1, .int x0_1), (2, .int x0_2), (3, .int x0_3)]) (S' := [.int x0_3, .ref 93, .int x0_2]) (h' := h5) rfl).trans ?_
      refine (es_cI (b := true) (k' := 137) (pc' := 53) (as := [.ref 93, .int x0_3]) (S' := [.int x0_2]) (L' := [(0, .ref 92), (1, .int x0_1), (2, .int x0_2), (3, .int x0_3)]) (h' := h5) rfl rfl rfl rfl rfl).trans (kI_cg fun x10 h9 => ?_)
      refine (es_st 1 (pc' := 57) (L' := [(0, .ref 92), (1, .int x0_1), (2, .int x0_2), (3, .int x0_3)]) (S' := [.int x10, .int x0_2]) (h' := h9) rfl).trans ?_
      refine (es_cI (b := true) (k' := 97) (pc' := 60) (as := [.int x0_2, .int x10]) (S' := []) (L' := [(0, .ref 92), (1, .int x0_1), (2, .int x0_2), (3, .int x0_3)]) (h' := h9) rfl rfl rfl rfl rfl).trans (kI_cg fun x12 h11 => ?_)
      refine (es_st 3 (pc' := 21) (L' := [(3, .int (x0_3 + (1 : Int32))), (2, .int x12), (0, .ref 92), (1, .int x0_1)]) (S' := []) (h' := h11) rfl).trans ?_
      exact es_cut rfl rfl rfl
    · refine (es_st 1 (pc' := 57) (L' := [(0, .ref 92), (1, .int x0_1), (2, .int x0_2), (3, .int x0_3)]) (S' := [.int (0 : Int32), .int x0_2]) (h' := h5) rfl).trans ?_
      refine (es_cI (b := true) (k' := 97) (pc' := 60) (as := [.int x0_2, .int (0 : Int32)]) (S' := []) (L' := [(0, .ref 92), (1, .int x0_1), (2, .int x0_2), (3, .int x0_3)]) (h' := h5) rfl rfl rfl rfl rfl).trans (kI_cg fun x8 h7 => ?_)
      refine (es_st 3 (pc' := 21) (L' := [(3, .int (x0_3 + (1 : Int32))), (2, .int x8), (0, .ref 92), (1, .int x0_1)]) (S' := []) (h' := h7) rfl).trans ?_
      exact es_cut rfl rfl rfl
theorem sX5_bounds_84 (B : Bool) (d : Nat) (hd : 1 ≤ d) (h : SG) (x0_2 : Int32) (s0 : Int32) : evS B d 98 84 [(0, .ref 92), (2, .int x0_2)] [.int s0, .ref 92] h = kV (mS B (d - 1) 100 [.ref 92, .int s0, .int (40 : Int32)] h) (fun h1 => kI (mS B (d - 1) 99 [.ref 92, .int (1 : Int32)] h1) (fun x3 h2 => if (1024 : Int32) < x3 then kV (mS B (d - 1) 100 [.ref 92, .int (0 : Int32), .int (41 : Int32)] h2) (fun h4 => kI (mS B (d - 1) 99 [.ref 92, .int (2 : Int32)] h4) (fun x6 h5 => if (12 : Int32) < x6 then evS B d 98 127 [(0, .ref 92), (2, .int x0_2)] [.int (0 : Int32), .ref 92] h5 else evS B d 98 127 [(0, .ref 92), (2, .int x0_2)] [.int (1 : Int32), .ref 92] h5)) else kV (mS B (d - 1) 100 [.ref 92, .int (1 : Int32), .int (41 : Int32)] h2) (fun h7 => kI (mS B (d - 1) 99 [.ref 92, .int (2 : Int32)] h7) (fun x9 h8 => if (12 : Int32) < x9 then evS B d 98 127 [(0, .ref 92), (2, .int x0_2)] [.int (0 : Int32), .ref 92] h8 else evS B d 98 127 [(0, .ref 92), (2, .int x0_2)] [.int (1 : Int32), .ref 92] h8)))) := by
  obtain ⟨d, rfl⟩ : ∃ e, d = e + 1 := ⟨d - 1, by omega⟩
  refine (es_st 1 (pc' := 86) (L' := [(0, .ref 92), (2, .int x0_2)]) (S' := [.int (40 : Int32), .int s0, .ref 92]) (h' := h) rfl).trans ?_
  refine (es_cV (b := true) (k' := 100) (pc' := 89) (as := [.ref 92, .int s0, .int (40 : Int32)]) (S' := []) (L' := [(0, .ref 92), (2, .int x0_2)]) (h' := h) rfl rfl rfl rfl rfl).trans (kV_cg fun h1 => ?_)
  refine (es_st 3 (pc' := 92) (L' := [(0, .ref 92), (2, .int x0_2)]) (S' := [.int (1 : Int32), .ref 92, .ref 92]) (h' := h1) rfl).trans ?_
  refine (es_cI (b := true) (k' := 99) (pc' := 95) (as := [.ref 92, .int (1 : Int32)]) (S' := [.ref 92]) (L' := [(0, .ref 92), (2, .int x0_2)]) (h' := h1) rfl rfl rfl rfl rfl).trans (kI_cg fun x3 h2 => ?_)
  refine (es_st 1 (pc' := 98) (L' := [(0, .ref 92), (2, .int x0_2)]) (S' := [.int (1024 : Int32), .int x3, .ref 92]) (h' := h2) rfl).trans ?_
  refine (is_gt (t := 105) rfl rfl rfl).trans (if_cg ?_ ?_)
  · refine (es_st 2 (pc' := 108) (L' := [(0, .ref 92), (2, .int x0_2)]) (S' := [.int (41 : Int32), .int (0 : Int32), .ref 92]) (h' := h2) rfl).trans ?_
    refine (es_cV (b := true) (k' := 100) (pc' := 111) (as := [.ref 92, .int (0 : Int32), .int (41 : Int32)]) (S' := []) (L' := [(0, .ref 92), (2, .int x0_2)]) (h' := h2) rfl rfl rfl rfl rfl).trans (kV_cg fun h4 => ?_)
    refine (es_st 3 (pc' := 114) (L' := [(0, .ref 92), (2, .int x0_2)]) (S' := [.int (2 : Int32), .ref 92, .ref 92]) (h' := h4) rfl).trans ?_
    refine (es_cI (b := true) (k' := 99) (pc' := 117) (as := [.ref 92, .int (2 : Int32)]) (S' := [.ref 92]) (L' := [(0, .ref 92), (2, .int x0_2)]) (h' := h4) rfl rfl rfl rfl rfl).trans (kI_cg fun x6 h5 => ?_)
    refine (es_st 1 (pc' := 119) (L' := [(0, .ref 92), (2, .int x0_2)]) (S' := [.int (12 : Int32), .int x6, .ref 92]) (h' := h5) rfl).trans ?_
    refine (is_gt (t := 126) rfl rfl rfl).trans (if_cg ?_ ?_)
    · refine (es_st 1 (pc' := 127) (L' := [(0, .ref 92), (2, .int x0_2)]) (S' := [.int (0 : Int32), .ref 92]) (h' := h5) rfl).trans ?_
      exact es_cut rfl rfl rfl
    · refine (es_st 2 (pc' := 127) (L' := [(0, .ref 92), (2, .int x0_2)]) (S' := [.int (1 : Int32), .ref 92]) (h' := h5) rfl).trans ?_
      exact es_cut rfl rfl rfl
  · refine (es_st 3 (pc' := 108) (L' := [(0, .ref 92), (2, .int x0_2)]) (S' := [.int (41 : Int32), .int (1 : Int32), .ref 92]) (h' := h2) rfl).trans ?_
    refine (es_cV (b := true) (k' := 100) (pc' := 111) (as := [.ref 92, .int (1 : Int32), .int (41 : Int32)]) (S' := []) (L' := [(0, .ref 92), (2, .int x0_2)]) (h' := h2) rfl rfl rfl rfl rfl).trans (kV_cg fun h7 => ?_)
    refine (es_st 3 (pc' := 114) (L' := [(0, .ref 92), (2, .int x0_2)]) (S' := [.int (2 : Int32), .ref 92, .ref 92]) (h' := h7) rfl).trans ?_
    refine (es_cI (b := true) (k' := 99) (pc' := 117) (as := [.ref 92, .int (2 : Int32)]) (S' := [.ref 92]) (L' := [(0, .ref 92), (2, .int x0_2)]) (h' := h7) rfl rfl rfl rfl rfl).trans (kI_cg fun x9 h8 => ?_)
    refine (es_st 1 (pc' := 119) (L' := [(0, .ref 92), (2, .int x0_2)]) (S' := [.int (12 : Int32), .int x9, .ref 92]) (h' := h8) rfl).trans ?_
    refine (is_gt (t := 126) rfl rfl rfl).trans (if_cg ?_ ?_)
    · refine (es_st 1 (pc' := 127) (L' := [(0, .ref 92), (2, .int x0_2)]) (S' := [.int (0 : Int32), .ref 92]) (h' := h8) rfl).trans ?_
      exact es_cut rfl rfl rfl
    · refine (es_st 2 (pc' := 127) (L' := [(0, .ref 92), (2, .int x0_2)]) (S' := [.int (1 : Int32), .ref 92]) (h' := h8) rfl).trans ?_
      exact es_cut rfl rfl rfl
theorem sX5_bounds_127 (B : Bool) (d : Nat) (hd : 1 ≤ d) (h : SG) (x0_2 : Int32) (s0 : Int32) : evS B d 98 127 [(0, .ref 92), (2, .int x0_2)] [.int s0, .ref 92] h = kV (mS B (d - 1) 100 [.ref 92, .int s0, .int (42 : Int32)] h) (fun h1 => if (6 : Int32) < x0_2 then kV (mS B (d - 1) 100 [.ref 92, .int (0 : Int32), .int (43 : Int32)] h1) (fun h2 => kI (mS B (d - 1) 99 [.ref 92, .int (3 : Int32)] h2) (fun x4 h3 => if (1500 : Int32) < x4 then evS B d 98 166 [(0, .ref 92), (2, .int x0_2)] [.int (0 : Int32), .ref 92] h3 else evS B d 98 166 [(0, .ref 92), (2, .int x0_2)] [.int (1 : Int32), .ref 92] h3)) else kV (mS B (d - 1) 100 [.ref 92, .int (1 : Int32), .int (43 : Int32)] h1) (fun h5 => kI (mS B (d - 1) 99 [.ref 92, .int (3 : Int32)] h5) (fun x7 h6 => if (1500 : Int32) < x7 then evS B d 98 166 [(0, .ref 92), (2, .int x0_2)] [.int (0 : Int32), .ref 92] h6 else evS B d 98 166 [(0, .ref 92), (2, .int x0_2)] [.int (1 : Int32), .ref 92] h6))) := by
  obtain ⟨d, rfl⟩ : ∃ e, d = e + 1 := ⟨d - 1, by omega⟩
  refine (es_st 1 (pc' := 129) (L' := [(0, .ref 92), (2, .int x0_2)]) (S' := [.int (42 : Int32), .int s0, .ref 92]) (h' := h) rfl).trans ?_
  refine (es_cV (b := true) (k' := 100) (pc' := 132) (as := [.ref 92, .int s0, .int (42 : Int32)]) (S' := []) (L' := [(0, .ref 92), (2, .int x0_2)]) (h' := h) rfl rfl rfl rfl rfl).trans (kV_cg fun h1 => ?_)
  refine (es_st 3 (pc' := 136) (L' := [(0, .ref 92), (2, .int x0_2)]) (S' := [.int (6 : Int32), .int x0_2, .ref 92]) (h' := h1) rfl).trans ?_
  refine (is_gt (t := 143) rfl rfl rfl).trans (if_cg ?_ ?_)
  · refine (es_st 2 (pc' := 146) (L' := [(0, .ref 92), (2, .int x0_2)]) (S' := [.int (43 : Int32), .int (0 : Int32), .ref 92]) (h' := h1) rfl).trans ?_
    refine (es_cV (b := true) (k' := 100) (pc' := 149) (as := [.ref 92, .int (0 : Int32), .int (43 : Int32)]) (S' := []) (L' := [(0, .ref 92), (2, .int x0_2)]) (h' := h1) rfl rfl rfl rfl rfl).trans (kV_cg fun h2 => ?_)
    refine (es_st 3 (pc' := 152) (L' := [(0, .ref 92), (2, .int x0_2)]) (S' := [.int (3 : Int32), .ref 92, .ref 92]) (h' := h2) rfl).trans ?_
    refine (es_cI (b := true) (k' := 99) (pc' := 155) (as := [.ref 92, .int (3 : Int32)]) (S' := [.ref 92]) (L' := [(0, .ref 92), (2, .int x0_2)]) (h' := h2) rfl rfl rfl rfl rfl).trans (kI_cg fun x4 h3 => ?_)
    refine (es_st 1 (pc' := 158) (L' := [(0, .ref 92), (2, .int x0_2)]) (S' := [.int (1500 : Int32), .int x4, .ref 92]) (h' := h3) rfl).trans ?_
    refine (is_gt (t := 165) rfl rfl rfl).trans (if_cg ?_ ?_)
    · refine (es_st 1 (pc' := 166) (L' := [(0, .ref 92), (2, .int x0_2)]) (S' := [.int (0 : Int32), .ref 92]) (h' := h3) rfl).trans ?_
      exact es_cut rfl rfl rfl
    · refine (es_st 2 (pc' := 166) (L' := [(0, .ref 92), (2, .int x0_2)]) (S' := [.int (1 : Int32), .ref 92]) (h' := h3) rfl).trans ?_
      exact es_cut rfl rfl rfl
  · refine (es_st 3 (pc' := 146) (L' := [(0, .ref 92), (2, .int x0_2)]) (S' := [.int (43 : Int32), .int (1 : Int32), .ref 92]) (h' := h1) rfl).trans ?_
    refine (es_cV (b := true) (k' := 100) (pc' := 149) (as := [.ref 92, .int (1 : Int32), .int (43 : Int32)]) (S' := []) (L' := [(0, .ref 92), (2, .int x0_2)]) (h' := h1) rfl rfl rfl rfl rfl).trans (kV_cg fun h5 => ?_)
    refine (es_st 3 (pc' := 152) (L' := [(0, .ref 92), (2, .int x0_2)]) (S' := [.int (3 : Int32), .ref 92, .ref 92]) (h' := h5) rfl).trans ?_
    refine (es_cI (b := true) (k' := 99) (pc' := 155) (as := [.ref 92, .int (3 : Int32)]) (S' := [.ref 92]) (L' := [(0, .ref 92), (2, .int x0_2)]) (h' := h5) rfl rfl rfl rfl rfl).trans (kI_cg fun x7 h6 => ?_)
    refine (es_st 1 (pc' := 158) (L' := [(0, .ref 92), (2, .int x0_2)]) (S' := [.int (1500 : Int32), .int x7, .ref 92]) (h' := h6) rfl).trans ?_
    refine (is_gt (t := 165) rfl rfl rfl).trans (if_cg ?_ ?_)
    · refine (es_st 1 (pc' := 166) (L' := [(0, .ref 92), (2, .int x0_2)]) (S' := [.int (0 : Int32), .ref 92]) (h' := h6) rfl).trans ?_
      exact es_cut rfl rfl rfl
    · refine (es_st 2 (pc' := 166) (L' := [(0, .ref 92), (2, .int x0_2)]) (S' := [.int (1 : Int32), .ref 92]) (h' := h6) rfl).trans ?_
      exact es_cut rfl rfl rfl
theorem sX5_bounds_166 (B : Bool) (d : Nat) (hd : 1 ≤ d) (h : SG) (x0_2 : Int32) (s0 : Int32) : evS B d 98 166 [(0, .ref 92), (2, .int x0_2)] [.int s0, .ref 92] h = kV (mS B (d - 1) 100 [.ref 92, .int s0, .int (44 : Int32)] h) (fun h1 => kI (mS B (d - 1) 99 [.ref 92, .int (3 : Int32)] h1) (fun x3 h2 => kI (mS B (d - 1) 99 [.ref 92, .int (2 : Int32)] h2) (fun x5 h4 => if 0 < (lg_cmp ((mxI (1 : Int32) x3).toInt64 <<< ((x5 + x0_2).toInt64 &&& 63)) (16777216 : Int64)) then kV (mS B (d - 1) 100 [.ref 92, .int (0 : Int32), .int (46 : Int32)] h4) (fun h6 => some (.inl none, h6)) else kV (mS B (d - 1) 100 [.ref 92, .int (1 : Int32), .int (46 : Int32)] h4) (fun h7 => some (.inl none, h7))))) := by
  obtain ⟨d, rfl⟩ : ∃ e, d = e + 1 := ⟨d - 1, by omega⟩
  refine (es_st 1 (pc' := 168) (L' := [(0, .ref 92), (2, .int x0_2)]) (S' := [.int (44 : Int32), .int s0, .ref 92]) (h' := h) rfl).trans ?_
  refine (es_cV (b := true) (k' := 100) (pc' := 171) (as := [.ref 92, .int s0, .int (44 : Int32)]) (S' := []) (L' := [(0, .ref 92), (2, .int x0_2)]) (h' := h) rfl rfl rfl rfl rfl).trans (kV_cg fun h1 => ?_)
  refine (es_st 4 (pc' := 175) (L' := [(0, .ref 92), (2, .int x0_2)]) (S' := [.int (3 : Int32), .ref 92, .int (1 : Int32), .ref 92]) (h' := h1) rfl).trans ?_
  refine (es_cI (b := true) (k' := 99) (pc' := 178) (as := [.ref 92, .int (3 : Int32)]) (S' := [.int (1 : Int32), .ref 92]) (L' := [(0, .ref 92), (2, .int x0_2)]) (h' := h1) rfl rfl rfl rfl rfl).trans (kI_cg fun x3 h2 => ?_)
  refine (es_st 1 (pc' := 181) (L' := [(0, .ref 92), (2, .int x0_2)]) (S' := [.int (mxI (1 : Int32) x3), .ref 92]) (h' := h2) rfl).trans ?_
  refine (es_st 3 (pc' := 184) (L' := [(0, .ref 92), (2, .int x0_2)]) (S' := [.int (2 : Int32), .ref 92, .long (mxI (1 : Int32) x3).toInt64, .ref 92]) (h' := h2) rfl).trans ?_
  refine (es_cI (b := true) (k' := 99) (pc' := 187) (as := [.ref 92, .int (2 : Int32)]) (S' := [.long (mxI (1 : Int32) x3).toInt64, .ref 92]) (L' := [(0, .ref 92), (2, .int x0_2)]) (h' := h2) rfl rfl rfl rfl rfl).trans (kI_cg fun x5 h4 => ?_)
  refine (es_st 5 (pc' := 194) (L' := [(0, .ref 92), (2, .int x0_2)]) (S' := [.int (lg_cmp ((mxI (1 : Int32) x3).toInt64 <<< ((x5 + x0_2).toInt64 &&& 63)) (16777216 : Int64)), .ref 92]) (h' := h4) rfl).trans ?_
  refine (zs_gt (t := 201) rfl rfl rfl).trans (if_cg ?_ ?_)
  · refine (es_st 2 (pc' := 204) (L' := [(0, .ref 92), (2, .int x0_2)]) (S' := [.int (46 : Int32), .int (0 : Int32), .ref 92]) (h' := h4) rfl).trans ?_
    refine (es_cV (b := true) (k' := 100) (pc' := 207) (as := [.ref 92, .int (0 : Int32), .int (46 : Int32)]) (S' := []) (L' := [(0, .ref 92), (2, .int x0_2)]) (h' := h4) rfl rfl rfl rfl rfl).trans (kV_cg fun h6 => ?_)
    exact es_fin rfl rfl rfl
  · refine (es_st 3 (pc' := 204) (L' := [(0, .ref 92), (2, .int x0_2)]) (S' := [.int (46 : Int32), .int (1 : Int32), .ref 92]) (h' := h4) rfl).trans ?_
    refine (es_cV (b := true) (k' := 100) (pc' := 207) (as := [.ref 92, .int (1 : Int32), .int (46 : Int32)]) (S' := []) (L' := [(0, .ref 92), (2, .int x0_2)]) (h' := h4) rfl rfl rfl rfl rfl).trans (kV_cg fun h7 => ?_)
    exact es_fin rfl rfl rfl
theorem sX5_totalA_0 (B : Bool) (d : Nat) (hd : 4 ≤ d) (h : SG) (x0_1 : Int32) : mS B d 99 [.ref 40, .int x0_1] h = kI (mS B (d - 1) 130 [.ref 41] h) (fun x2 h1 => ob (rAt h1 75 (((4 : Int32) * (x2 - (1 : Int32))) + x0_1)) (fun x3 => some (.inl (some (.int x3)), h1))) := by
  obtain ⟨d, rfl⟩ : ∃ e, d = e + 4 := ⟨d - 4, by omega⟩
  show evS B (d + 4) 99 0 [(0, .ref 40), (1, .int x0_1)] [] h = _
  refine (es_st 5 (pc' := 9) (L' := [(0, .ref 40), (1, .int x0_1)]) (S' := [.ref 41, .int (4 : Int32), .ref 75]) (h' := h) rfl).trans ?_
  refine (es_cI (b := true) (k' := 130) (pc' := 12) (as := [.ref 41]) (S' := [.int (4 : Int32), .ref 75]) (L' := [(0, .ref 40), (1, .int x0_1)]) (h' := h) rfl rfl rfl rfl rfl).trans (kI_cg fun x2 h1 => ?_)
  refine (es_st 5 (pc' := 17) (L' := [(0, .ref 40), (1, .int x0_1)]) (S' := [.int (((4 : Int32) * (x2 - (1 : Int32))) + x0_1), .ref 75]) (h' := h1) rfl).trans ?_
  refine (es_ob (o := rAt h1 75 (((4 : Int32) * (x2 - (1 : Int32))) + x0_1)) (pc' := 20) (L' := [(0, .ref 40), (1, .int x0_1)]) (S' := fun z => [.int z]) (h' := fun z => h1) rfl rfl rfl).trans (ob_cg fun x3 => ?_)
  exact es_fin rfl rfl rfl
theorem sX5_total_0 (B : Bool) (d : Nat) (hd : 4 ≤ d) (h : SG) (x0_1 : Int32) : mS B d 99 [.ref 92, .int x0_1] h = kI (mS B (d - 1) 130 [.ref 93] h) (fun x2 h1 => ob (rAt h1 127 (((4 : Int32) * (x2 - (1 : Int32))) + x0_1)) (fun x3 => some (.inl (some (.int x3)), h1))) := by
  obtain ⟨d, rfl⟩ : ∃ e, d = e + 4 := ⟨d - 4, by omega⟩
  show evS B (d + 4) 99 0 [(0, .ref 92), (1, .int x0_1)] [] h = _
  refine (es_st 5 (pc' := 9) (L' := [(0, .ref 92), (1, .int x0_1)]) (S' := [.ref 93, .int (4 : Int32), .ref 127]) (h' := h) rfl).trans ?_
  refine (es_cI (b := true) (k' := 130) (pc' := 12) (as := [.ref 93]) (S' := [.int (4 : Int32), .ref 127]) (L' := [(0, .ref 92), (1, .int x0_1)]) (h' := h) rfl rfl rfl rfl rfl).trans (kI_cg fun x2 h1 => ?_)
  refine (es_st 5 (pc' := 17) (L' := [(0, .ref 92), (1, .int x0_1)]) (S' := [.int (((4 : Int32) * (x2 - (1 : Int32))) + x0_1), .ref 127]) (h' := h1) rfl).trans ?_
  refine (es_ob (o := rAt h1 127 (((4 : Int32) * (x2 - (1 : Int32))) + x0_1)) (pc' := 20) (L' := [(0, .ref 92), (1, .int x0_1)]) (S' := fun z => [.int z]) (h' := fun z => h1) rfl rfl rfl).trans (ob_cg fun x3 => ?_)
  exact es_fin rfl rfl rfl
theorem sX5_need_0 (B : Bool) (d : Nat) (hd : 4 ≤ d) (h : SG) (x0_1 : Int32) (x0_2 : Int32) : mS B d 100 [.ref 92, .int x0_1, .int x0_2] h = if x0_1 = 0 then kI (mS B (d - 1) 130 [.ref 93] h) (fun x2 h1 => ob (rAt h1 96 ((7 : Int32) * (x2 - (1 : Int32)))) (fun x3 => kR (mS B (d - 1) 33 [.ref 27, .int x0_2, .int x3] h1) (fun a5 h4 => ckS (Nat.beq a5 29) (some (.inr 0, h4))))) else some (.inl none, h) := by
  obtain ⟨d, rfl⟩ : ∃ e, d = e + 4 := ⟨d - 4, by omega⟩
  show evS B (d + 4) 100 0 [(0, .ref 92), (1, .int x0_1), (2, .int x0_2)] [] h = _
  refine (es_st 1 (pc' := 1) (L' := [(0, .ref 92), (1, .int x0_1), (2, .int x0_2)]) (S' := [.int x0_1]) (h' := h) rfl).trans ?_
  refine (zs_ne (t := 35) rfl rfl rfl).trans (if_cg ?_ ?_)
  · refine (es_st 9 (pc' := 22) (L' := [(0, .ref 92), (1, .int x0_1), (2, .int x0_2)]) (S' := [.ref 93, .int (7 : Int32), .ref 96, .int x0_2, .ref 27]) (h' := h) rfl).trans ?_
    refine (es_cI (b := true) (k' := 130) (pc' := 25) (as := [.ref 93]) (S' := [.int (7 : Int32), .ref 96, .int x0_2, .ref 27]) (L' := [(0, .ref 92), (1, .int x0_1), (2, .int x0_2)]) (h' := h) rfl rfl rfl rfl rfl).trans (kI_cg fun x2 h1 => ?_)
    refine (es_st 3 (pc' := 28) (L' := [(0, .ref 92), (1, .int x0_1), (2, .int x0_2)]) (S' := [.int ((7 : Int32) * (x2 - (1 : Int32))), .ref 96, .int x0_2, .ref 27]) (h' := h1) rfl).trans ?_
    refine (es_ob (o := rAt h1 96 ((7 : Int32) * (x2 - (1 : Int32)))) (pc' := 31) (L' := [(0, .ref 92), (1, .int x0_1), (2, .int x0_2)]) (S' := fun z => [.int z, .int x0_2, .ref 27]) (h' := fun z => h1) rfl rfl rfl).trans (ob_cg fun x3 => ?_)
    refine (es_cR (b := true) (k' := 33) (pc' := 34) (as := [.ref 27, .int x0_2, .int x3]) (S' := []) (L' := [(0, .ref 92), (1, .int x0_1), (2, .int x0_2)]) (h' := h1) rfl rfl rfl rfl rfl).trans (kR_cg fun a5 h4 => ?_)
    exact es_thr rfl rfl rfl
  · exact es_fin rfl rfl rfl
theorem sX5_instances_0 (B : Bool) (d : Nat) (hd : 4 ≤ d) (h : SG) : mS B d 101 [.ref 92] h = ob (pSz h 117 (0 : Int32)) (fun h1 => ob (pSz h1 119 (0 : Int32)) (fun h2 => ob (pSz h2 121 (0 : Int32)) (fun h3 => ob (pSz h3 138 (0 : Int32)) (fun h4 => kI (mS B (d - 1) 130 [.ref 93] h4) (fun x6 h5 => kI (mS B (d - 1) 102 [.ref 92, .int (x6 - (1 : Int32)), .int (-1 : Int32), .int (-1 : Int32)] h5) (fun x8 h7 => ob (rAdd h7 138 x8) (fun q9 => kI (mS B (d - 1) 130 [.ref 93] q9.2) (fun x11 h10 => kI (mS B (d - 1) 142 [.ref 93, .int (x11 - (1 : Int32))] h10) (fun x13 h12 => ob (rAdd h12 138 x13) (fun q14 => evS B d 101 79 [(0, .ref 92)] [] q14.2)))))))))) := by
  obtain ⟨d, rfl⟩ : ∃ e, d = e + 4 := ⟨d - 4, by omega⟩
  show evS B (d + 4) 101 0 [(0, .ref 92)] [] h = _
  refine (es_st 3 (pc' := 5) (L' := [(0, .ref 92)]) (S' := [.int (0 : Int32), .ref 117]) (h' := h) rfl).trans ?_
  refine (es_ob (o := pSz h 117 (0 : Int32)) (pc' := 8) (L' := [(0, .ref 92)]) (S' := fun z => []) (h' := fun z => z) rfl rfl rfl).trans (ob_cg fun h1 => ?_)
  refine (es_st 3 (pc' := 13) (L' := [(0, .ref 92)]) (S' := [.int (0 : Int32), .ref 119]) (h' := h1) rfl).trans ?_
  refine (es_ob (o := pSz h1 119 (0 : Int32)) (pc' := 16) (L' := [(0, .ref 92)]) (S' := fun z => []) (h' := fun z => z) rfl rfl rfl).trans (ob_cg fun h2 => ?_)
  refine (es_st 3 (pc' := 21) (L' := [(0, .ref 92)]) (S' := [.int (0 : Int32), .ref 121]) (h' := h2) rfl).trans ?_
  refine (es_ob (o := pSz h2 121 (0 : Int32)) (pc' := 24) (L' := [(0, .ref 92)]) (S' := fun z => []) (h' := fun z => z) rfl rfl rfl).trans (ob_cg fun h3 => ?_)
  refine (es_st 3 (pc' := 29) (L' := [(0, .ref 92)]) (S' := [.int (0 : Int32), .ref 138]) (h' := h3) rfl).trans ?_
  refine (es_ob (o := pSz h3 138 (0 : Int32)) (pc' := 32) (L' := [(0, .ref 92)]) (S' := fun z => []) (h' := fun z => z) rfl rfl rfl).trans (ob_cg fun h4 => ?_)
  refine (es_st 5 (pc' := 41) (L' := [(0, .ref 92)]) (S' := [.ref 93, .ref 92, .ref 138]) (h' := h4) rfl).trans ?_
  refine (es_cI (b := true) (k' := 130) (pc' := 44) (as := [.ref 93]) (S' := [.ref 92, .ref 138]) (L' := [(0, .ref 92)]) (h' := h4) rfl rfl rfl rfl rfl).trans (kI_cg fun x6 h5 => ?_)
  refine (es_st 4 (pc' := 48) (L' := [(0, .ref 92)]) (S' := [.int (-1 : Int32), .int (-1 : Int32), .int (x6 - (1 : Int32)), .ref 92, .ref 138]) (h' := h5) rfl).trans ?_
  refine (es_cI (b := true) (k' := 102) (pc' := 51) (as := [.ref 92, .int (x6 - (1 : Int32)), .int (-1 : Int32), .int (-1 : Int32)]) (S' := [.ref 138]) (L' := [(0, .ref 92)]) (h' := h5) rfl rfl rfl rfl rfl).trans (kI_cg fun x8 h7 => ?_)
  refine (es_ob (o := rAdd h7 138 x8) (pc' := 54) (L' := [(0, .ref 92)]) (S' := fun z => [.int z.1]) (h' := fun z => z.2) rfl rfl rfl).trans (ob_cg fun q9 => ?_)
  refine (es_st 7 (pc' := 67) (L' := [(0, .ref 92)]) (S' := [.ref 93, .ref 93, .ref 138]) (h' := q9.2) rfl).trans ?_
  refine (es_cI (b := true) (k' := 130) (pc' := 70) (as := [.ref 93]) (S' := [.ref 93, .ref 138]) (L' := [(0, .ref 92)]) (h' := q9.2) rfl rfl rfl rfl rfl).trans (kI_cg fun x11 h10 => ?_)
  refine (es_st 2 (pc' := 72) (L' := [(0, .ref 92)]) (S' := [.int (x11 - (1 : Int32)), .ref 93, .ref 138]) (h' := h10) rfl).trans ?_
  refine (es_cI (b := true) (k' := 142) (pc' := 75) (as := [.ref 93, .int (x11 - (1 : Int32))]) (S' := [.ref 138]) (L' := [(0, .ref 92)]) (h' := h10) rfl rfl rfl rfl rfl).trans (kI_cg fun x13 h12 => ?_)
  refine (es_ob (o := rAdd h12 138 x13) (pc' := 78) (L' := [(0, .ref 92)]) (S' := fun z => [.int z.1]) (h' := fun z => z.2) rfl rfl rfl).trans (ob_cg fun q14 => ?_)
  refine (es_st 1 (pc' := 79) (L' := [(0, .ref 92)]) (S' := []) (h' := q14.2) rfl).trans ?_
  exact es_cut rfl rfl rfl
theorem sX5_instances_79 (B : Bool) (d : Nat) (hd : 4 ≤ d) (h : SG) : evS B d 101 79 [(0, .ref 92)] [] h = if (Int32.ofNat (sW h 138).length) ≤ 0 then some (.inl none, h) else ob (rTake h 138) (fun q1 => ob (rTake q1.2 138) (fun q2 => ob (rAt q2.2 117 ((4 : Int32) * q2.1)) (fun x3 => evS B d 101 116 [(0, .ref 92), (1, .int q1.1), (2, .int q2.1), (3, .int x3)] [] q2.2))) := by
  obtain ⟨d, rfl⟩ : ∃ e, d = e + 4 := ⟨d - 4, by omega⟩
  refine (es_st 3 (pc' := 86) (L' := [(0, .ref 92)]) (S' := [.int (Int32.ofNat (sW h 138).length)]) (h' := h) rfl).trans ?_
  refine (zs_le (t := 248) rfl rfl rfl).trans (if_cg ?_ ?_)
  · exact es_fin rfl rfl rfl
  · refine (es_st 2 (pc' := 93) (L' := [(0, .ref 92)]) (S' := [.ref 138]) (h' := h) rfl).trans ?_
    refine (es_ob (o := rTake h 138) (pc' := 96) (L' := [(0, .ref 92)]) (S' := fun z => [.int z.1]) (h' := fun z => z.2) rfl rfl rfl).trans (ob_cg fun q1 => ?_)
    refine (es_st 3 (pc' := 101) (L' := [(1, .int q1.1), (0, .ref 92)]) (S' := [.ref 138]) (h' := q1.2) rfl).trans ?_
    refine (es_ob (o := rTake q1.2 138) (pc' := 104) (L' := [(1, .int q1.1), (0, .ref 92)]) (S' := fun z => [.int z.1]) (h' := fun z => z.2) rfl rfl rfl).trans (ob_cg fun q2 => ?_)
    refine (es_st 6 (pc' := 112) (L' := [(2, .int q2.1), (1, .int q1.1), (0, .ref 92)]) (S' := [.int ((4 : Int32) * q2.1), .ref 117]) (h' := q2.2) rfl).trans ?_
    refine (es_ob (o := rAt q2.2 117 ((4 : Int32) * q2.1)) (pc' := 115) (L' := [(2, .int q2.1), (1, .int q1.1), (0, .ref 92)]) (S' := fun z => [.int z]) (h' := fun z => q2.2) rfl rfl rfl).trans (ob_cg fun x3 => ?_)
    refine (es_st 1 (pc' := 116) (L' := [(3, .int x3), (2, .int q2.1), (1, .int q1.1), (0, .ref 92)]) (S' := []) (h' := q2.2) rfl).trans ?_
    exact es_cut rfl rfl rfl
theorem sX5_instances_116 (B : Bool) (d : Nat) (hd : 4 ≤ d) (h : SG) (x0_1 : Int32) (x0_2 : Int32) (x0_3 : Int32) : evS B d 101 116 [(0, .ref 92), (1, .int x0_1), (2, .int x0_2), (3, .int x0_3)] [] h = kI (mS B (d - 1) 143 [.ref 93, .int x0_3] h) (fun x2 h1 => if x2 ≤ x0_1 then evS B d 101 151 [(0, .ref 92), (1, .int x0_1), (2, .int x0_2), (3, .int x0_3)] [] h1 else ob (rAt h1 98 ((4 : Int32) * x0_1)) (fun x3 => if x3 = (2 : Int32) then evS B d 101 151 [(0, .ref 92), (1, .int x0_1), (2, .int x0_2), (3, .int x0_3)] [] h1 else evS B d 101 116 [(0, .ref 92), (1, .int (x0_1 + (1 : Int32))), (2, .int x0_2), (3, .int x0_3)] [] h1)) := by
  obtain ⟨d, rfl⟩ : ∃ e, d = e + 4 := ⟨d - 4, by omega⟩
  refine (es_st 4 (pc' := 122) (L' := [(0, .ref 92), (1, .int x0_1), (2, .int x0_2), (3, .int x0_3)]) (S' := [.int x0_3, .ref 93, .int x0_1]) (h' := h) rfl).trans ?_
  refine (es_cI (b := true) (k' := 143) (pc' := 125) (as := [.ref 93, .int x0_3]) (S' := [.int x0_1]) (L' := [(0, .ref 92), (1, .int x0_1), (2, .int x0_2), (3, .int x0_3)]) (h' := h) rfl rfl rfl rfl rfl).trans (kI_cg fun x2 h1 => ?_)
  refine (is_ge (t := 151) rfl rfl rfl).trans (if_cg ?_ ?_)
  · exact es_cut rfl rfl rfl
  · refine (es_st 6 (pc' := 138) (L' := [(0, .ref 92), (1, .int x0_1), (2, .int x0_2), (3, .int x0_3)]) (S' := [.int ((4 : Int32) * x0_1), .ref 98]) (h' := h1) rfl).trans ?_
    refine (es_ob (o := rAt h1 98 ((4 : Int32) * x0_1)) (pc' := 141) (L' := [(0, .ref 92), (1, .int x0_1), (2, .int x0_2), (3, .int x0_3)]) (S' := fun z => [.int z]) (h' := fun z => h1) rfl rfl rfl).trans (ob_cg fun x3 => ?_)
    refine (es_st 1 (pc' := 142) (L' := [(0, .ref 92), (1, .int x0_1), (2, .int x0_2), (3, .int x0_3)]) (S' := [.int (2 : Int32), .int x3]) (h' := h1) rfl).trans ?_
    refine (is_eq (t := 151) rfl rfl rfl).trans (if_cg ?_ ?_)
    · exact es_cut rfl rfl rfl
    · refine (es_st 2 (pc' := 116) (L' := [(1, .int (x0_1 + (1 : Int32))), (0, .ref 92), (2, .int x0_2), (3, .int x0_3)]) (S' := []) (h' := h1) rfl).trans ?_
      exact es_cut rfl rfl rfl
theorem sX5_instances_151 (B : Bool) (d : Nat) (hd : 4 ≤ d) (h : SG) (x0_1 : Int32) (x0_2 : Int32) (x0_3 : Int32) : evS B d 101 151 [(0, .ref 92), (1, .int x0_1), (2, .int x0_2), (3, .int x0_3)] [] h = kI (mS B (d - 1) 143 [.ref 93, .int x0_3] h) (fun x2 h1 => if x0_1 = x2 then evS B d 101 79 [(0, .ref 92)] [] h1 else ob (rAdd h1 138 x0_2) (fun q3 => ob (rAdd q3.2 138 (x0_1 + (1 : Int32))) (fun q4 => ob (rAt q4.2 98 (((4 : Int32) * x0_1) + (1 : Int32))) (fun x5 => kI (mS B (d - 1) 136 [.ref 93, .int x5, .int (7 : Int32)] q4.2) (fun x7 h6 => kI (mS B (d - 1) 102 [.ref 92, .int x7, .int x0_2, .int x0_1] h6) (fun x9 h8 => ob (rAdd h8 138 x9) (fun q10 => kI (mS B (d - 1) 142 [.ref 93, .int x7] q10.2) (fun x12 h11 => ob (rAdd h11 138 x12) (fun q13 => evS B d 101 79 [(0, .ref 92)] [] q13.2))))))))) := by
  obtain ⟨d, rfl⟩ : ∃ e, d = e + 4 := ⟨d - 4, by omega⟩
  refine (es_st 4 (pc' := 157) (L' := [(0, .ref 92), (1, .int x0_1), (2, .int x0_2), (3, .int x0_3)]) (S' := [.int x0_3, .ref 93, .int x0_1]) (h' := h) rfl).trans ?_
  refine (es_cI (b := true) (k' := 143) (pc' := 160) (as := [.ref 93, .int x0_3]) (S' := [.int x0_1]) (L' := [(0, .ref 92), (1, .int x0_1), (2, .int x0_2), (3, .int x0_3)]) (h' := h) rfl rfl rfl rfl rfl).trans (kI_cg fun x2 h1 => ?_)
  refine (is_ne (t := 166) rfl rfl rfl).trans (if_cg ?_ ?_)
  · refine (es_st 1 (pc' := 79) (L' := [(0, .ref 92), (1, .int x0_1), (2, .int x0_2), (3, .int x0_3)]) (S' := []) (h' := h1) rfl).trans ?_
    exact es_cut rfl rfl rfl
  · refine (es_st 3 (pc' := 171) (L' := [(0, .ref 92), (1, .int x0_1), (2, .int x0_2), (3, .int x0_3)]) (S' := [.int x0_2, .ref 138]) (h' := h1) rfl).trans ?_
    refine (es_ob (o := rAdd h1 138 x0_2) (pc' := 174) (L' := [(0, .ref 92), (1, .int x0_1), (2, .int x0_2), (3, .int x0_3)]) (S' := fun z => [.int z.1]) (h' := fun z => z.2) rfl rfl rfl).trans (ob_cg fun q3 => ?_)
    refine (es_st 6 (pc' := 182) (L' := [(0, .ref 92), (1, .int x0_1), (2, .int x0_2), (3, .int x0_3)]) (S' := [.int (x0_1 + (1 : Int32)), .ref 138]) (h' := q3.2) rfl).trans ?_
    refine (es_ob (o := rAdd q3.2 138 (x0_1 + (1 : Int32))) (pc' := 185) (L' := [(0, .ref 92), (1, .int x0_1), (2, .int x0_2), (3, .int x0_3)]) (S' := fun z => [.int z.1]) (h' := fun z => z.2) rfl rfl rfl).trans (ob_cg fun q4 => ?_)
    refine (es_st 11 (pc' := 202) (L' := [(0, .ref 92), (1, .int x0_1), (2, .int x0_2), (3, .int x0_3)]) (S' := [.int (((4 : Int32) * x0_1) + (1 : Int32)), .ref 98, .ref 93]) (h' := q4.2) rfl).trans ?_
    refine (es_ob (o := rAt q4.2 98 (((4 : Int32) * x0_1) + (1 : Int32))) (pc' := 205) (L' := [(0, .ref 92), (1, .int x0_1), (2, .int x0_2), (3, .int x0_3)]) (S' := fun z => [.int z, .ref 93]) (h' := fun z => q4.2) rfl rfl rfl).trans (ob_cg fun x5 => ?_)
    refine (es_st 1 (pc' := 207) (L' := [(0, .ref 92), (1, .int x0_1), (2, .int x0_2), (3, .int x0_3)]) (S' := [.int (7 : Int32), .int x5, .ref 93]) (h' := q4.2) rfl).trans ?_
    refine (es_cI (b := true) (k' := 136) (pc' := 210) (as := [.ref 93, .int x5, .int (7 : Int32)]) (S' := []) (L' := [(0, .ref 92), (1, .int x0_1), (2, .int x0_2), (3, .int x0_3)]) (h' := q4.2) rfl rfl rfl rfl rfl).trans (kI_cg fun x7 h6 => ?_)
    refine (es_st 7 (pc' := 221) (L' := [(4, .int x7), (0, .ref 92), (1, .int x0_1), (2, .int x0_2), (3, .int x0_3)]) (S' := [.int x0_1, .int x0_2, .int x7, .ref 92, .ref 138]) (h' := h6) rfl).trans ?_
    refine (es_cI (b := true) (k' := 102) (pc' := 224) (as := [.ref 92, .int x7, .int x0_2, .int x0_1]) (S' := [.ref 138]) (L' := [(4, .int x7), (0, .ref 92), (1, .int x0_1), (2, .int x0_2), (3, .int x0_3)]) (h' := h6) rfl rfl rfl rfl rfl).trans (kI_cg fun x9 h8 => ?_)
    refine (es_ob (o := rAdd h8 138 x9) (pc' := 227) (L' := [(4, .int x7), (0, .ref 92), (1, .int x0_1), (2, .int x0_2), (3, .int x0_3)]) (S' := fun z => [.int z.1]) (h' := fun z => z.2) rfl rfl rfl).trans (ob_cg fun q10 => ?_)
    refine (es_st 6 (pc' := 238) (L' := [(4, .int x7), (0, .ref 92), (1, .int x0_1), (2, .int x0_2), (3, .int x0_3)]) (S' := [.int x7, .ref 93, .ref 138]) (h' := q10.2) rfl).trans ?_
    refine (es_cI (b := true) (k' := 142) (pc' := 241) (as := [.ref 93, .int x7]) (S' := [.ref 138]) (L' := [(4, .int x7), (0, .ref 92), (1, .int x0_1), (2, .int x0_2), (3, .int x0_3)]) (h' := q10.2) rfl rfl rfl rfl rfl).trans (kI_cg fun x12 h11 => ?_)
    refine (es_ob (o := rAdd h11 138 x12) (pc' := 244) (L' := [(4, .int x7), (0, .ref 92), (1, .int x0_1), (2, .int x0_2), (3, .int x0_3)]) (S' := fun z => [.int z.1]) (h' := fun z => z.2) rfl rfl rfl).trans (ob_cg fun q13 => ?_)
    refine (es_st 2 (pc' := 79) (L' := [(4, .int x7), (0, .ref 92), (1, .int x0_1), (2, .int x0_2), (3, .int x0_3)]) (S' := []) (h' := q13.2) rfl).trans ?_
    exact es_cut rfl rfl rfl
theorem sX5_instance_0 (B : Bool) (d : Nat) (hd : 4 ≤ d) (h : SG) (x0_1 : Int32) (x0_2 : Int32) (x0_3 : Int32) : mS B d 102 [.ref 92, .int x0_1, .int x0_2, .int x0_3] h = ob (rAdd h 117 x0_1) (fun q1 => ob (rAdd q1.2 117 x0_2) (fun q2 => ob (rAdd q2.2 117 x0_3) (fun q3 => ob (rAdd q3.2 117 ((Int32.ofNat (sW q3.2 119).length) / (3 : Int32))) (fun q4 => kI (mS B (d - 1) 134 [.ref 93, .int x0_1] q4.2) (fun x6 h5 => evS B d 102 65 [(0, .ref 92), (1, .int x0_1), (4, .int ((Int32.ofNat (sW h 117).length) / (4 : Int32))), (5, .int x6)] [] h5))))) := by
  obtain ⟨d, rfl⟩ : ∃ e, d = e + 4 := ⟨d - 4, by omega⟩
  show evS B (d + 4) 102 0 [(0, .ref 92), (1, .int x0_1), (2, .int x0_2), (3, .int x0_3)] [] h = _
  refine (es_st 9 (pc' := 16) (L' := [(4, .int ((Int32.ofNat (sW h 117).length) / (4 : Int32))), (0, .ref 92), (1, .int x0_1), (2, .int x0_2), (3, .int x0_3)]) (S' := [.int x0_1, .ref 117]) (h' := h) rfl).trans ?_
  refine (es_ob (o := rAdd h 117 x0_1) (pc' := 19) (L' := [(4, .int ((Int32.ofNat (sW h 117).length) / (4 : Int32))), (0, .ref 92), (1, .int x0_1), (2, .int x0_2), (3, .int x0_3)]) (S' := fun z => [.int z.1]) (h' := fun z => z.2) rfl rfl rfl).trans (ob_cg fun q1 => ?_)
  refine (es_st 4 (pc' := 25) (L' := [(4, .int ((Int32.ofNat (sW h 117).length) / (4 : Int32))), (0, .ref 92), (1, .int x0_1), (2, .int x0_2), (3, .int x0_3)]) (S' := [.int x0_2, .ref 117]) (h' := q1.2) rfl).trans ?_
  refine (es_ob (o := rAdd q1.2 117 x0_2) (pc' := 28) (L' := [(4, .int ((Int32.ofNat (sW h 117).length) / (4 : Int32))), (0, .ref 92), (1, .int x0_1), (2, .int x0_2), (3, .int x0_3)]) (S' := fun z => [.int z.1]) (h' := fun z => z.2) rfl rfl rfl).trans (ob_cg fun q2 => ?_)
  refine (es_st 4 (pc' := 34) (L' := [(4, .int ((Int32.ofNat (sW h 117).length) / (4 : Int32))), (0, .ref 92), (1, .int x0_1), (2, .int x0_2), (3, .int x0_3)]) (S' := [.int x0_3, .ref 117]) (h' := q2.2) rfl).trans ?_
  refine (es_ob (o := rAdd q2.2 117 x0_3) (pc' := 37) (L' := [(4, .int ((Int32.ofNat (sW h 117).length) / (4 : Int32))), (0, .ref 92), (1, .int x0_1), (2, .int x0_2), (3, .int x0_3)]) (S' := fun z => [.int z.1]) (h' := fun z => z.2) rfl rfl rfl).trans (ob_cg fun q3 => ?_)
  refine (es_st 8 (pc' := 51) (L' := [(4, .int ((Int32.ofNat (sW h 117).length) / (4 : Int32))), (0, .ref 92), (1, .int x0_1), (2, .int x0_2), (3, .int x0_3)]) (S' := [.int ((Int32.ofNat (sW q3.2 119).length) / (3 : Int32)), .ref 117]) (h' := q3.2) rfl).trans ?_
  refine (es_ob (o := rAdd q3.2 117 ((Int32.ofNat (sW q3.2 119).length) / (3 : Int32))) (pc' := 54) (L' := [(4, .int ((Int32.ofNat (sW h 117).length) / (4 : Int32))), (0, .ref 92), (1, .int x0_1), (2, .int x0_2), (3, .int x0_3)]) (S' := fun z => [.int z.1]) (h' := fun z => z.2) rfl rfl rfl).trans (ob_cg fun q4 => ?_)
  refine (es_st 4 (pc' := 60) (L' := [(4, .int ((Int32.ofNat (sW h 117).length) / (4 : Int32))), (0, .ref 92), (1, .int x0_1), (2, .int x0_2), (3, .int x0_3)]) (S' := [.int x0_1, .ref 93]) (h' := q4.2) rfl).trans ?_
  refine (es_cI (b := true) (k' := 134) (pc' := 63) (as := [.ref 93, .int x0_1]) (S' := []) (L' := [(4, .int ((Int32.ofNat (sW h 117).length) / (4 : Int32))), (0, .ref 92), (1, .int x0_1), (2, .int x0_2), (3, .int x0_3)]) (h' := q4.2) rfl rfl rfl rfl rfl).trans (kI_cg fun x6 h5 => ?_)
  refine (es_st 1 (pc' := 65) (L' := [(5, .int x6), (4, .int ((Int32.ofNat (sW h 117).length) / (4 : Int32))), (0, .ref 92), (1, .int x0_1), (2, .int x0_2), (3, .int x0_3)]) (S' := []) (h' := h5) rfl).trans ?_
  exact es_cut rfl rfl rfl
theorem sX5_instance_65 (B : Bool) (d : Nat) (hd : 4 ≤ d) (h : SG) (x0_1 : Int32) (x0_4 : Int32) (x0_5 : Int32) : evS B d 102 65 [(0, .ref 92), (1, .int x0_1), (4, .int x0_4), (5, .int x0_5)] [] h = kI (mS B (d - 1) 135 [.ref 93, .int x0_1] h) (fun x2 h1 => if x2 ≤ x0_5 then some (.inl (some (.int x0_4)), h1) else kI (mS B (d - 1) 138 [.ref 93, .int x0_5] h1) (fun x4 h3 => if x4 = (5 : Int32) then evS B d 102 65 [(0, .ref 92), (1, .int x0_1), (4, .int x0_4), (5, .int (x0_5 + (1 : Int32)))] [] h3 else ob (rAdd h3 119 x0_5) (fun q5 => ob (rAdd q5.2 119 x0_4) (fun q6 => ob (rAdd q6.2 119 (Int32.ofNat (sW q6.2 121).length)) (fun q7 => evS B d 102 132 [(0, .ref 92), (1, .int x0_1), (4, .int x0_4), (5, .int x0_5), (6, .int (0 : Int32))] [] q7.2))))) := by
  obtain ⟨d, rfl⟩ : ∃ e, d = e + 4 := ⟨d - 4, by omega⟩
  refine (es_st 4 (pc' := 72) (L' := [(0, .ref 92), (1, .int x0_1), (4, .int x0_4), (5, .int x0_5)]) (S' := [.int x0_1, .ref 93, .int x0_5]) (h' := h) rfl).trans ?_
  refine (es_cI (b := true) (k' := 135) (pc' := 75) (as := [.ref 93, .int x0_1]) (S' := [.int x0_5]) (L' := [(0, .ref 92), (1, .int x0_1), (4, .int x0_4), (5, .int x0_5)]) (h' := h) rfl rfl rfl rfl rfl).trans (kI_cg fun x2 h1 => ?_)
  refine (is_ge (t := 167) rfl rfl rfl).trans (if_cg ?_ ?_)
  · refine (es_st 1 (pc' := 169) (L' := [(0, .ref 92), (1, .int x0_1), (4, .int x0_4), (5, .int x0_5)]) (S' := [.int x0_4]) (h' := h1) rfl).trans ?_
    exact es_fin rfl rfl rfl
  · refine (es_st 3 (pc' := 84) (L' := [(0, .ref 92), (1, .int x0_1), (4, .int x0_4), (5, .int x0_5)]) (S' := [.int x0_5, .ref 93]) (h' := h1) rfl).trans ?_
    refine (es_cI (b := true) (k' := 138) (pc' := 87) (as := [.ref 93, .int x0_5]) (S' := []) (L' := [(0, .ref 92), (1, .int x0_1), (4, .int x0_4), (5, .int x0_5)]) (h' := h1) rfl rfl rfl rfl rfl).trans (kI_cg fun x4 h3 => ?_)
    refine (es_st 1 (pc' := 88) (L' := [(0, .ref 92), (1, .int x0_1), (4, .int x0_4), (5, .int x0_5)]) (S' := [.int (5 : Int32), .int x4]) (h' := h3) rfl).trans ?_
    refine (is_ne (t := 94) rfl rfl rfl).trans (if_cg ?_ ?_)
    · refine (es_st 3 (pc' := 65) (L' := [(5, .int (x0_5 + (1 : Int32))), (0, .ref 92), (1, .int x0_1), (4, .int x0_4)]) (S' := []) (h' := h3) rfl).trans ?_
      exact es_cut rfl rfl rfl
    · refine (es_st 3 (pc' := 100) (L' := [(0, .ref 92), (1, .int x0_1), (4, .int x0_4), (5, .int x0_5)]) (S' := [.int x0_5, .ref 119]) (h' := h3) rfl).trans ?_
      refine (es_ob (o := rAdd h3 119 x0_5) (pc' := 103) (L' := [(0, .ref 92), (1, .int x0_1), (4, .int x0_4), (5, .int x0_5)]) (S' := fun z => [.int z.1]) (h' := fun z => z.2) rfl rfl rfl).trans (ob_cg fun q5 => ?_)
      refine (es_st 4 (pc' := 110) (L' := [(0, .ref 92), (1, .int x0_1), (4, .int x0_4), (5, .int x0_5)]) (S' := [.int x0_4, .ref 119]) (h' := q5.2) rfl).trans ?_
      refine (es_ob (o := rAdd q5.2 119 x0_4) (pc' := 113) (L' := [(0, .ref 92), (1, .int x0_1), (4, .int x0_4), (5, .int x0_5)]) (S' := fun z => [.int z.1]) (h' := fun z => z.2) rfl rfl rfl).trans (ob_cg fun q6 => ?_)
      refine (es_st 6 (pc' := 125) (L' := [(0, .ref 92), (1, .int x0_1), (4, .int x0_4), (5, .int x0_5)]) (S' := [.int (Int32.ofNat (sW q6.2 121).length), .ref 119]) (h' := q6.2) rfl).trans ?_
      refine (es_ob (o := rAdd q6.2 119 (Int32.ofNat (sW q6.2 121).length)) (pc' := 128) (L' := [(0, .ref 92), (1, .int x0_1), (4, .int x0_4), (5, .int x0_5)]) (S' := fun z => [.int z.1]) (h' := fun z => z.2) rfl rfl rfl).trans (ob_cg fun q7 => ?_)
      refine (es_st 3 (pc' := 132) (L' := [(6, .int (0 : Int32)), (0, .ref 92), (1, .int x0_1), (4, .int x0_4), (5, .int x0_5)]) (S' := []) (h' := q7.2) rfl).trans ?_
      exact es_cut rfl rfl rfl
theorem sX5_instance_132 (B : Bool) (d : Nat) (hd : 4 ≤ d) (h : SG) (x0_1 : Int32) (x0_4 : Int32) (x0_5 : Int32) (x0_6 : Int32) : evS B d 102 132 [(0, .ref 92), (1, .int x0_1), (4, .int x0_4), (5, .int x0_5), (6, .int x0_6)] [] h = kI (mS B (d - 1) 137 [.ref 93, .int x0_5] h) (fun x2 h1 => if x2 ≤ x0_6 then evS B d 102 65 [(0, .ref 92), (1, .int x0_1), (4, .int x0_4), (5, .int (x0_5 + (1 : Int32)))] [] h1 else ob (rAdd h1 121 (0 : Int32)) (fun q3 => evS B d 102 132 [(0, .ref 92), (1, .int x0_1), (4, .int x0_4), (5, .int x0_5), (6, .int (x0_6 + (1 : Int32)))] [] q3.2)) := by
  obtain ⟨d, rfl⟩ : ∃ e, d = e + 4 := ⟨d - 4, by omega⟩
  refine (es_st 4 (pc' := 140) (L' := [(0, .ref 92), (1, .int x0_1), (4, .int x0_4), (5, .int x0_5), (6, .int x0_6)]) (S' := [.int x0_5, .ref 93, .int x0_6]) (h' := h) rfl).trans ?_
  refine (es_cI (b := true) (k' := 137) (pc' := 143) (as := [.ref 93, .int x0_5]) (S' := [.int x0_6]) (L' := [(0, .ref 92), (1, .int x0_1), (4, .int x0_4), (5, .int x0_5), (6, .int x0_6)]) (h' := h) rfl rfl rfl rfl rfl).trans (kI_cg fun x2 h1 => ?_)
  refine (is_ge (t := 161) rfl rfl rfl).trans (if_cg ?_ ?_)
  · refine (es_st 2 (pc' := 65) (L' := [(5, .int (x0_5 + (1 : Int32))), (0, .ref 92), (1, .int x0_1), (4, .int x0_4), (6, .int x0_6)]) (S' := []) (h' := h1) rfl).trans ?_
    exact es_cut rfl rfl rfl
  · refine (es_st 3 (pc' := 151) (L' := [(0, .ref 92), (1, .int x0_1), (4, .int x0_4), (5, .int x0_5), (6, .int x0_6)]) (S' := [.int (0 : Int32), .ref 121]) (h' := h1) rfl).trans ?_
    refine (es_ob (o := rAdd h1 121 (0 : Int32)) (pc' := 154) (L' := [(0, .ref 92), (1, .int x0_1), (4, .int x0_4), (5, .int x0_5), (6, .int x0_6)]) (S' := fun z => [.int z.1]) (h' := fun z => z.2) rfl rfl rfl).trans (ob_cg fun q3 => ?_)
    refine (es_st 3 (pc' := 132) (L' := [(6, .int (x0_6 + (1 : Int32))), (0, .ref 92), (1, .int x0_1), (4, .int x0_4), (5, .int x0_5)]) (S' := []) (h' := q3.2) rfl).trans ?_
    exact es_cut rfl rfl rfl
theorem sX5_edges_0 (B : Bool) (d : Nat) (hd : 4 ≤ d) (h : SG) : mS B d 103 [.ref 92] h = ob (pSz h 123 (0 : Int32)) (fun h1 => ob (pSz h1 125 (0 : Int32)) (fun h2 => evS B d 103 18 [(0, .ref 92), (1, .int (0 : Int32))] [] h2)) := by
  obtain ⟨d, rfl⟩ : ∃ e, d = e + 4 := ⟨d - 4, by omega⟩
  show evS B (d + 4) 103 0 [(0, .ref 92)] [] h = _
  refine (es_st 3 (pc' := 5) (L' := [(0, .ref 92)]) (S' := [.int (0 : Int32), .ref 123]) (h' := h) rfl).trans ?_
  refine (es_ob (o := pSz h 123 (0 : Int32)) (pc' := 8) (L' := [(0, .ref 92)]) (S' := fun z => []) (h' := fun z => z) rfl rfl rfl).trans (ob_cg fun h1 => ?_)
  refine (es_st 3 (pc' := 13) (L' := [(0, .ref 92)]) (S' := [.int (0 : Int32), .ref 125]) (h' := h1) rfl).trans ?_
  refine (es_ob (o := pSz h1 125 (0 : Int32)) (pc' := 16) (L' := [(0, .ref 92)]) (S' := fun z => []) (h' := fun z => z) rfl rfl rfl).trans (ob_cg fun h2 => ?_)
  refine (es_st 2 (pc' := 18) (L' := [(1, .int (0 : Int32)), (0, .ref 92)]) (S' := []) (h' := h2) rfl).trans ?_
  exact es_cut rfl rfl rfl
theorem sX5_edges_18 (B : Bool) (d : Nat) (hd : 4 ≤ d) (h : SG) (x0_1 : Int32) : evS B d 103 18 [(0, .ref 92), (1, .int x0_1)] [] h = if ((Int32.ofNat (sW h 119).length) / (3 : Int32)) ≤ x0_1 then ob (rAdd h 125 (Int32.ofNat (sW h 123).length)) (fun q1 => some (.inl none, q1.2)) else ob (rAdd h 125 (Int32.ofNat (sW h 123).length)) (fun q2 => kV (mS B (d - 1) 104 [.ref 92, .int x0_1] q2.2) (fun h3 => if (sF h3 92 21) = (-2 : Int32) then ob (rAdd h3 123 (sF h3 92 22)) (fun q4 => evS B d 103 77 [(0, .ref 92), (1, .int x0_1), (2, .int (sF q4.2 92 22))] [] q4.2) else evS B d 103 77 [(0, .ref 92), (1, .int x0_1), (2, .int (sF h3 92 22))] [] h3)) := by
  obtain ⟨d, rfl⟩ : ∃ e, d = e + 4 := ⟨d - 4, by omega⟩
  refine (es_st 6 (pc' := 28) (L' := [(0, .ref 92), (1, .int x0_1)]) (S' := [.int ((Int32.ofNat (sW h 119).length) / (3 : Int32)), .int x0_1]) (h' := h) rfl).trans ?_
  refine (is_ge (t := 153) rfl rfl rfl).trans (if_cg ?_ ?_)
  · refine (es_st 5 (pc' := 164) (L' := [(0, .ref 92), (1, .int x0_1)]) (S' := [.int (Int32.ofNat (sW h 123).length), .ref 125]) (h' := h) rfl).trans ?_
    refine (es_ob (o := rAdd h 125 (Int32.ofNat (sW h 123).length)) (pc' := 167) (L' := [(0, .ref 92), (1, .int x0_1)]) (S' := fun z => [.int z.1]) (h' := fun z => z.2) rfl rfl rfl).trans (ob_cg fun q1 => ?_)
    refine (es_st 1 (pc' := 168) (L' := [(0, .ref 92), (1, .int x0_1)]) (S' := []) (h' := q1.2) rfl).trans ?_
    exact es_fin rfl rfl rfl
  · refine (es_st 5 (pc' := 42) (L' := [(0, .ref 92), (1, .int x0_1)]) (S' := [.int (Int32.ofNat (sW h 123).length), .ref 125]) (h' := h) rfl).trans ?_
    refine (es_ob (o := rAdd h 125 (Int32.ofNat (sW h 123).length)) (pc' := 45) (L' := [(0, .ref 92), (1, .int x0_1)]) (S' := fun z => [.int z.1]) (h' := fun z => z.2) rfl rfl rfl).trans (ob_cg fun q2 => ?_)
    refine (es_st 3 (pc' := 48) (L' := [(0, .ref 92), (1, .int x0_1)]) (S' := [.int x0_1, .ref 92]) (h' := q2.2) rfl).trans ?_
    refine (es_cV (b := true) (k' := 104) (pc' := 51) (as := [.ref 92, .int x0_1]) (S' := []) (L' := [(0, .ref 92), (1, .int x0_1)]) (h' := q2.2) rfl rfl rfl rfl rfl).trans (kV_cg fun h3 => ?_)
    refine (es_st 3 (pc' := 57) (L' := [(0, .ref 92), (1, .int x0_1)]) (S' := [.int (-2 : Int32), .int (sF h3 92 21)]) (h' := h3) rfl).trans ?_
    refine (is_ne (t := 72) rfl rfl rfl).trans (if_cg ?_ ?_)
    · refine (es_st 4 (pc' := 68) (L' := [(0, .ref 92), (1, .int x0_1)]) (S' := [.int (sF h3 92 22), .ref 123]) (h' := h3) rfl).trans ?_
      refine (es_ob (o := rAdd h3 123 (sF h3 92 22)) (pc' := 71) (L' := [(0, .ref 92), (1, .int x0_1)]) (S' := fun z => [.int z.1]) (h' := fun z => z.2) rfl rfl rfl).trans (ob_cg fun q4 => ?_)
      refine (es_st 4 (pc' := 77) (L' := [(2, .int (sF q4.2 92 22)), (0, .ref 92), (1, .int x0_1)]) (S' := []) (h' := q4.2) rfl).trans ?_
      exact es_cut rfl rfl rfl
    · refine (es_st 3 (pc' := 77) (L' := [(2, .int (sF h3 92 22)), (0, .ref 92), (1, .int x0_1)]) (S' := []) (h' := h3) rfl).trans ?_
      exact es_cut rfl rfl rfl
theorem sX5_edges_77 (B : Bool) (d : Nat) (hd : 4 ≤ d) (h : SG) (x0_1 : Int32) (x0_2 : Int32) : evS B d 103 77 [(0, .ref 92), (1, .int x0_1), (2, .int x0_2)] [] h = if (sF h 92 21) < 0 then evS B d 103 18 [(0, .ref 92), (1, .int (x0_1 + (1 : Int32)))] [] h else if (sF h 92 23) ≤ x0_2 then evS B d 103 18 [(0, .ref 92), (1, .int (x0_1 + (1 : Int32)))] [] h else ob (rAt h 102 x0_2) (fun x1 => if x1 = (1 : Int32) then ob (rAt h 102 (x0_2 + (1 : Int32))) (fun x4 => kI (mS B (d - 1) 109 [.ref 92, .int (sF h 92 21), .int x4] h) (fun x6 h5 => ob (rAdd h5 123 x6) (fun q7 => kI (mS B (d - 1) 110 [.ref 92, .int x0_2] q7.2) (fun x9 h8 => evS B d 103 77 [(0, .ref 92), (1, .int x0_1), (2, .int (x0_2 + x9))] [] h8)))) else kI (mS B (d - 1) 110 [.ref 92, .int x0_2] h) (fun x3 h2 => evS B d 103 77 [(0, .ref 92), (1, .int x0_1), (2, .int (x0_2 + x3))] [] h2)) := by
  obtain ⟨d, rfl⟩ : ∃ e, d = e + 4 := ⟨d - 4, by omega⟩
  refine (es_st 2 (pc' := 81) (L' := [(0, .ref 92), (1, .int x0_1), (2, .int x0_2)]) (S' := [.int (sF h 92 21)]) (h' := h) rfl).trans ?_
  refine (zs_lt (t := 147) rfl rfl rfl).trans (if_cg ?_ ?_)
  · refine (es_st 2 (pc' := 18) (L' := [(1, .int (x0_1 + (1 : Int32))), (0, .ref 92), (2, .int x0_2)]) (S' := []) (h' := h) rfl).trans ?_
    exact es_cut rfl rfl rfl
  · refine (es_st 3 (pc' := 89) (L' := [(0, .ref 92), (1, .int x0_1), (2, .int x0_2)]) (S' := [.int (sF h 92 23), .int x0_2]) (h' := h) rfl).trans ?_
    refine (is_ge (t := 147) rfl rfl rfl).trans (if_cg ?_ ?_)
    · refine (es_st 2 (pc' := 18) (L' := [(1, .int (x0_1 + (1 : Int32))), (0, .ref 92), (2, .int x0_2)]) (S' := []) (h' := h) rfl).trans ?_
      exact es_cut rfl rfl rfl
    · refine (es_st 4 (pc' := 100) (L' := [(0, .ref 92), (1, .int x0_1), (2, .int x0_2)]) (S' := [.int x0_2, .ref 102]) (h' := h) rfl).trans ?_
      refine (es_ob (o := rAt h 102 x0_2) (pc' := 103) (L' := [(0, .ref 92), (1, .int x0_1), (2, .int x0_2)]) (S' := fun z => [.int z]) (h' := fun z => h) rfl rfl rfl).trans (ob_cg fun x1 => ?_)
      refine (es_st 1 (pc' := 104) (L' := [(0, .ref 92), (1, .int x0_1), (2, .int x0_2)]) (S' := [.int (1 : Int32), .int x1]) (h' := h) rfl).trans ?_
      refine (is_ne (t := 136) rfl rfl rfl).trans (if_cg ?_ ?_)
      · refine (es_st 11 (pc' := 126) (L' := [(0, .ref 92), (1, .int x0_1), (2, .int x0_2)]) (S' := [.int (x0_2 + (1 : Int32)), .ref 102, .int (sF h 92 21), .ref 92, .ref 123]) (h' := h) rfl).trans ?_
        refine (es_ob (o := rAt h 102 (x0_2 + (1 : Int32))) (pc' := 129) (L' := [(0, .ref 92), (1, .int x0_1), (2, .int x0_2)]) (S' := fun z => [.int z, .int (sF h 92 21), .ref 92, .ref 123]) (h' := fun z => h) rfl rfl rfl).trans (ob_cg fun x4 => ?_)
        refine (es_cI (b := true) (k' := 109) (pc' := 132) (as := [.ref 92, .int (sF h 92 21), .int x4]) (S' := [.ref 123]) (L' := [(0, .ref 92), (1, .int x0_1), (2, .int x0_2)]) (h' := h) rfl rfl rfl rfl rfl).trans (kI_cg fun x6 h5 => ?_)
        refine (es_ob (o := rAdd h5 123 x6) (pc' := 135) (L' := [(0, .ref 92), (1, .int x0_1), (2, .int x0_2)]) (S' := fun z => [.int z.1]) (h' := fun z => z.2) rfl rfl rfl).trans (ob_cg fun q7 => ?_)
        refine (es_st 4 (pc' := 139) (L' := [(0, .ref 92), (1, .int x0_1), (2, .int x0_2)]) (S' := [.int x0_2, .ref 92, .int x0_2]) (h' := q7.2) rfl).trans ?_
        refine (es_cI (b := true) (k' := 110) (pc' := 142) (as := [.ref 92, .int x0_2]) (S' := [.int x0_2]) (L' := [(0, .ref 92), (1, .int x0_1), (2, .int x0_2)]) (h' := q7.2) rfl rfl rfl rfl rfl).trans (kI_cg fun x9 h8 => ?_)
        refine (es_st 3 (pc' := 77) (L' := [(2, .int (x0_2 + x9)), (0, .ref 92), (1, .int x0_1)]) (S' := []) (h' := h8) rfl).trans ?_
        exact es_cut rfl rfl rfl
      · refine (es_st 3 (pc' := 139) (L' := [(0, .ref 92), (1, .int x0_1), (2, .int x0_2)]) (S' := [.int x0_2, .ref 92, .int x0_2]) (h' := h) rfl).trans ?_
        refine (es_cI (b := true) (k' := 110) (pc' := 142) (as := [.ref 92, .int x0_2]) (S' := [.int x0_2]) (L' := [(0, .ref 92), (1, .int x0_1), (2, .int x0_2)]) (h' := h) rfl rfl rfl rfl rfl).trans (kI_cg fun x3 h2 => ?_)
        refine (es_st 3 (pc' := 77) (L' := [(2, .int (x0_2 + x3)), (0, .ref 92), (1, .int x0_1)]) (S' := []) (h' := h2) rfl).trans ?_
        exact es_cut rfl rfl rfl
theorem sX5_drivenBy_0 (B : Bool) (d : Nat) (hd : 4 ≤ d) (h : SG) (x0_1 : Int32) : mS B d 104 [.ref 92, .int x0_1] h = kI (mS B (d - 1) 105 [.ref 92, .int x0_1] h) (fun x2 h1 => ob (rAt h1 119 (((3 : Int32) * x0_1) + (1 : Int32))) (fun x3 => kI (mS B (d - 1) 106 [.ref 92, .int x0_1] (uF h1 92 21 (-1 : Int32))) (fun x5 h4 => if x5 = 0 then kI (mS B (d - 1) 140 [.ref 93, .int x2] h4) (fun x7 h6 => if x7 = 0 then kI (mS B (d - 1) 138 [.ref 93, .int x2] h6) (fun x9 h8 => if x9 = 0 then ob (rAt h8 117 (((4 : Int32) * x3) + (2 : Int32))) (fun x13 => ob (rAt h8 98 (((4 : Int32) * x13) + (2 : Int32))) (fun x14 => ob (rAt h8 117 ((4 : Int32) * x3)) (fun x15 => kI (mS B (d - 1) 134 [.ref 93, .int x15] h8) (fun x17 h16 => ob (rAt h16 117 (((4 : Int32) * x3) + (1 : Int32))) (fun x18 => ob (rAt h16 100 ((x14 + ((3 : Int32) * (x2 - x17))) + (1 : Int32))) (fun x19 => ob (rAt h16 100 ((x14 + ((3 : Int32) * (x2 - x17))) + (2 : Int32))) (fun x20 => kV (mS B (d - 1) 107 [.ref 92, .int x18, .int x19, .int x20] h16) (fun h21 => some (.inl none, h21))))))))) else ob (rAt h8 117 ((4 : Int32) * x3)) (fun x10 => kI (mS B (d - 1) 142 [.ref 93, .int x10] h8) (fun x12 h11 => evS B d 104 173 [(0, .ref 92), (2, .int x2), (3, .int x3), (4, .int x10), (5, .int x12)] [] h11))) else some (.inl none, h6)) else some (.inl none, h4)))) := by
  obtain ⟨d, rfl⟩ : ∃ e, d = e + 4 := ⟨d - 4, by omega⟩
  show evS B (d + 4) 104 0 [(0, .ref 92), (1, .int x0_1)] [] h = _
  refine (es_st 2 (pc' := 2) (L' := [(0, .ref 92), (1, .int x0_1)]) (S' := [.int x0_1, .ref 92]) (h' := h) rfl).trans ?_
  refine (es_cI (b := true) (k' := 105) (pc' := 5) (as := [.ref 92, .int x0_1]) (S' := []) (L' := [(0, .ref 92), (1, .int x0_1)]) (h' := h) rfl rfl rfl rfl rfl).trans (kI_cg fun x2 h1 => ?_)
  refine (es_st 8 (pc' := 15) (L' := [(2, .int x2), (0, .ref 92), (1, .int x0_1)]) (S' := [.int (((3 : Int32) * x0_1) + (1 : Int32)), .ref 119]) (h' := h1) rfl).trans ?_
  refine (es_ob (o := rAt h1 119 (((3 : Int32) * x0_1) + (1 : Int32))) (pc' := 18) (L' := [(2, .int x2), (0, .ref 92), (1, .int x0_1)]) (S' := fun z => [.int z]) (h' := fun z => h1) rfl rfl rfl).trans (ob_cg fun x3 => ?_)
  refine (es_st 6 (pc' := 26) (L' := [(3, .int x3), (2, .int x2), (0, .ref 92), (1, .int x0_1)]) (S' := [.int x0_1, .ref 92]) (h' := (uF h1 92 21 (-1 : Int32))) rfl).trans ?_
  refine (es_cI (b := true) (k' := 106) (pc' := 29) (as := [.ref 92, .int x0_1]) (S' := []) (L' := [(3, .int x3), (2, .int x2), (0, .ref 92), (1, .int x0_1)]) (h' := (uF h1 92 21 (-1 : Int32))) rfl rfl rfl rfl rfl).trans (kI_cg fun x5 h4 => ?_)
  refine (zs_ne (t := 43) rfl rfl rfl).trans (if_cg ?_ ?_)
  · refine (es_st 3 (pc' := 37) (L' := [(3, .int x3), (2, .int x2), (0, .ref 92), (1, .int x0_1)]) (S' := [.int x2, .ref 93]) (h' := h4) rfl).trans ?_
    refine (es_cI (b := true) (k' := 140) (pc' := 40) (as := [.ref 93, .int x2]) (S' := []) (L' := [(3, .int x3), (2, .int x2), (0, .ref 92), (1, .int x0_1)]) (h' := h4) rfl rfl rfl rfl rfl).trans (kI_cg fun x7 h6 => ?_)
    refine (zs_eq (t := 44) rfl rfl rfl).trans (if_cg ?_ ?_)
    · refine (es_st 3 (pc' := 49) (L' := [(3, .int x3), (2, .int x2), (0, .ref 92), (1, .int x0_1)]) (S' := [.int x2, .ref 93]) (h' := h6) rfl).trans ?_
      refine (es_cI (b := true) (k' := 138) (pc' := 52) (as := [.ref 93, .int x2]) (S' := []) (L' := [(3, .int x3), (2, .int x2), (0, .ref 92), (1, .int x0_1)]) (h' := h6) rfl rfl rfl rfl rfl).trans (kI_cg fun x9 h8 => ?_)
      refine (zs_ne (t := 150) rfl rfl rfl).trans (if_cg ?_ ?_)
      · refine (es_st 11 (pc' := 72) (L' := [(3, .int x3), (2, .int x2), (0, .ref 92), (1, .int x0_1)]) (S' := [.int (((4 : Int32) * x3) + (2 : Int32)), .ref 117, .int (4 : Int32), .ref 98]) (h' := h8) rfl).trans ?_
        refine (es_ob (o := rAt h8 117 (((4 : Int32) * x3) + (2 : Int32))) (pc' := 75) (L' := [(3, .int x3), (2, .int x2), (0, .ref 92), (1, .int x0_1)]) (S' := fun z => [.int z, .int (4 : Int32), .ref 98]) (h' := fun z => h8) rfl rfl rfl).trans (ob_cg fun x13 => ?_)
        refine (es_st 3 (pc' := 78) (L' := [(3, .int x3), (2, .int x2), (0, .ref 92), (1, .int x0_1)]) (S' := [.int (((4 : Int32) * x13) + (2 : Int32)), .ref 98]) (h' := h8) rfl).trans ?_
        refine (es_ob (o := rAt h8 98 (((4 : Int32) * x13) + (2 : Int32))) (pc' := 81) (L' := [(3, .int x3), (2, .int x2), (0, .ref 92), (1, .int x0_1)]) (S' := fun z => [.int z]) (h' := fun z => h8) rfl rfl rfl).trans (ob_cg fun x14 => ?_)
        refine (es_st 9 (pc' := 94) (L' := [(3, .int x3), (2, .int x2), (0, .ref 92), (1, .int x0_1)]) (S' := [.int ((4 : Int32) * x3), .ref 117, .ref 93, .int x2, .int (3 : Int32), .int x14]) (h' := h8) rfl).trans ?_
        refine (es_ob (o := rAt h8 117 ((4 : Int32) * x3)) (pc' := 97) (L' := [(3, .int x3), (2, .int x2), (0, .ref 92), (1, .int x0_1)]) (S' := fun z => [.int z, .ref 93, .int x2, .int (3 : Int32), .int x14]) (h' := fun z => h8) rfl rfl rfl).trans (ob_cg fun x15 => ?_)
        refine (es_cI (b := true) (k' := 134) (pc' := 100) (as := [.ref 93, .int x15]) (S' := [.int x2, .int (3 : Int32), .int x14]) (L' := [(3, .int x3), (2, .int x2), (0, .ref 92), (1, .int x0_1)]) (h' := h8) rfl rfl rfl rfl rfl).trans (kI_cg fun x17 h16 => ?_)
        refine (es_st 12 (pc' := 115) (L' := [(4, .int (x14 + ((3 : Int32) * (x2 - x17)))), (3, .int x3), (2, .int x2), (0, .ref 92), (1, .int x0_1)]) (S' := [.int (((4 : Int32) * x3) + (1 : Int32)), .ref 117, .ref 92]) (h' := h16) rfl).trans ?_
        refine (es_ob (o := rAt h16 117 (((4 : Int32) * x3) + (1 : Int32))) (pc' := 118) (L' := [(4, .int (x14 + ((3 : Int32) * (x2 - x17)))), (3, .int x3), (2, .int x2), (0, .ref 92), (1, .int x0_1)]) (S' := fun z => [.int z, .ref 92]) (h' := fun z => h16) rfl rfl rfl).trans (ob_cg fun x18 => ?_)
        refine (es_st 6 (pc' := 129) (L' := [(4, .int (x14 + ((3 : Int32) * (x2 - x17)))), (3, .int x3), (2, .int x2), (0, .ref 92), (1, .int x0_1)]) (S' := [.int ((x14 + ((3 : Int32) * (x2 - x17))) + (1 : Int32)), .ref 100, .int x18, .ref 92]) (h' := h16) rfl).trans ?_
        refine (es_ob (o := rAt h16 100 ((x14 + ((3 : Int32) * (x2 - x17))) + (1 : Int32))) (pc' := 132) (L' := [(4, .int (x14 + ((3 : Int32) * (x2 - x17)))), (3, .int x3), (2, .int x2), (0, .ref 92), (1, .int x0_1)]) (S' := fun z => [.int z, .int x18, .ref 92]) (h' := fun z => h16) rfl rfl rfl).trans (ob_cg fun x19 => ?_)
        refine (es_st 6 (pc' := 143) (L' := [(4, .int (x14 + ((3 : Int32) * (x2 - x17)))), (3, .int x3), (2, .int x2), (0, .ref 92), (1, .int x0_1)]) (S' := [.int ((x14 + ((3 : Int32) * (x2 - x17))) + (2 : Int32)), .ref 100, .int x19, .int x18, .ref 92]) (h' := h16) rfl).trans ?_
        refine (es_ob (o := rAt h16 100 ((x14 + ((3 : Int32) * (x2 - x17))) + (2 : Int32))) (pc' := 146) (L' := [(4, .int (x14 + ((3 : Int32) * (x2 - x17)))), (3, .int x3), (2, .int x2), (0, .ref 92), (1, .int x0_1)]) (S' := fun z => [.int z, .int x19, .int x18, .ref 92]) (h' := fun z => h16) rfl rfl rfl).trans (ob_cg fun x20 => ?_)
        refine (es_cV (b := true) (k' := 107) (pc' := 149) (as := [.ref 92, .int x18, .int x19, .int x20]) (S' := []) (L' := [(4, .int (x14 + ((3 : Int32) * (x2 - x17)))), (3, .int x3), (2, .int x2), (0, .ref 92), (1, .int x0_1)]) (h' := h16) rfl rfl rfl rfl rfl).trans (kV_cg fun h21 => ?_)
        exact es_fin rfl rfl rfl
      · refine (es_st 5 (pc' := 157) (L' := [(3, .int x3), (2, .int x2), (0, .ref 92), (1, .int x0_1)]) (S' := [.int ((4 : Int32) * x3), .ref 117]) (h' := h8) rfl).trans ?_
        refine (es_ob (o := rAt h8 117 ((4 : Int32) * x3)) (pc' := 160) (L' := [(3, .int x3), (2, .int x2), (0, .ref 92), (1, .int x0_1)]) (S' := fun z => [.int z]) (h' := fun z => h8) rfl rfl rfl).trans (ob_cg fun x10 => ?_)
        refine (es_st 4 (pc' := 168) (L' := [(4, .int x10), (3, .int x3), (2, .int x2), (0, .ref 92), (1, .int x0_1)]) (S' := [.int x10, .ref 93]) (h' := h8) rfl).trans ?_
        refine (es_cI (b := true) (k' := 142) (pc' := 171) (as := [.ref 93, .int x10]) (S' := []) (L' := [(4, .int x10), (3, .int x3), (2, .int x2), (0, .ref 92), (1, .int x0_1)]) (h' := h8) rfl rfl rfl rfl rfl).trans (kI_cg fun x12 h11 => ?_)
        refine (es_st 1 (pc' := 173) (L' := [(5, .int x12), (4, .int x10), (3, .int x3), (2, .int x2), (0, .ref 92), (1, .int x0_1)]) (S' := []) (h' := h11) rfl).trans ?_
        exact es_cut rfl rfl rfl
    · exact es_fin rfl rfl rfl
  · exact es_fin rfl rfl rfl
theorem sX5_drivenBy_173 (B : Bool) (d : Nat) (hd : 4 ≤ d) (h : SG) (x0_2 : Int32) (x0_3 : Int32) (x0_4 : Int32) (x0_5 : Int32) : evS B d 104 173 [(0, .ref 92), (2, .int x0_2), (3, .int x0_3), (4, .int x0_4), (5, .int x0_5)] [] h = kI (mS B (d - 1) 143 [.ref 93, .int x0_4] h) (fun x2 h1 => if x2 ≤ x0_5 then some (.inl none, h1) else ob (rAt h1 98 ((4 : Int32) * x0_5)) (fun x3 => if x3 = 0 then ob (rAt h1 98 (((4 : Int32) * x0_5) + (1 : Int32))) (fun x4 => if x4 = x0_2 then ob (rAt h1 98 (((4 : Int32) * x0_5) + (2 : Int32))) (fun x5 => ob (rAt h1 98 (((4 : Int32) * x0_5) + (3 : Int32))) (fun x6 => kV (mS B (d - 1) 107 [.ref 92, .int x0_3, .int x5, .int x6] h1) (fun h7 => evS B d 104 261 [(0, .ref 92), (2, .int x0_2), (3, .int x0_3), (4, .int x0_4), (5, .int x0_5)] [] h7))) else evS B d 104 261 [(0, .ref 92), (2, .int x0_2), (3, .int x0_3), (4, .int x0_4), (5, .int x0_5)] [] h1) else evS B d 104 261 [(0, .ref 92), (2, .int x0_2), (3, .int x0_3), (4, .int x0_4), (5, .int x0_5)] [] h1)) := by
  obtain ⟨d, rfl⟩ : ∃ e, d = e + 4 := ⟨d - 4, by omega⟩
  refine (es_st 4 (pc' := 181) (L' := [(0, .ref 92), (2, .int x0_2), (3, .int x0_3), (4, .int x0_4), (5, .int x0_5)]) (S' := [.int x0_4, .ref 93, .int x0_5]) (h' := h) rfl).trans ?_
  refine (es_cI (b := true) (k' := 143) (pc' := 184) (as := [.ref 93, .int x0_4]) (S' := [.int x0_5]) (L' := [(0, .ref 92), (2, .int x0_2), (3, .int x0_3), (4, .int x0_4), (5, .int x0_5)]) (h' := h) rfl rfl rfl rfl rfl).trans (kI_cg fun x2 h1 => ?_)
  refine (is_ge (t := 293) rfl rfl rfl).trans (if_cg ?_ ?_)
  · exact es_fin rfl rfl rfl
  · refine (es_st 6 (pc' := 198) (L' := [(0, .ref 92), (2, .int x0_2), (3, .int x0_3), (4, .int x0_4), (5, .int x0_5)]) (S' := [.int ((4 : Int32) * x0_5), .ref 98]) (h' := h1) rfl).trans ?_
    refine (es_ob (o := rAt h1 98 ((4 : Int32) * x0_5)) (pc' := 201) (L' := [(0, .ref 92), (2, .int x0_2), (3, .int x0_3), (4, .int x0_4), (5, .int x0_5)]) (S' := fun z => [.int z]) (h' := fun z => h1) rfl rfl rfl).trans (ob_cg fun x3 => ?_)
    refine (zs_ne (t := 261) rfl rfl rfl).trans (if_cg ?_ ?_)
    · refine (es_st 8 (pc' := 217) (L' := [(0, .ref 92), (2, .int x0_2), (3, .int x0_3), (4, .int x0_4), (5, .int x0_5)]) (S' := [.int (((4 : Int32) * x0_5) + (1 : Int32)), .ref 98]) (h' := h1) rfl).trans ?_
      refine (es_ob (o := rAt h1 98 (((4 : Int32) * x0_5) + (1 : Int32))) (pc' := 220) (L' := [(0, .ref 92), (2, .int x0_2), (3, .int x0_3), (4, .int x0_4), (5, .int x0_5)]) (S' := fun z => [.int z]) (h' := fun z => h1) rfl rfl rfl).trans (ob_cg fun x4 => ?_)
      refine (es_st 1 (pc' := 221) (L' := [(0, .ref 92), (2, .int x0_2), (3, .int x0_3), (4, .int x0_4), (5, .int x0_5)]) (S' := [.int x0_2, .int x4]) (h' := h1) rfl).trans ?_
      refine (is_ne (t := 261) rfl rfl rfl).trans (if_cg ?_ ?_)
      · refine (es_st 10 (pc' := 239) (L' := [(0, .ref 92), (2, .int x0_2), (3, .int x0_3), (4, .int x0_4), (5, .int x0_5)]) (S' := [.int (((4 : Int32) * x0_5) + (2 : Int32)), .ref 98, .int x0_3, .ref 92]) (h' := h1) rfl).trans ?_
        refine (es_ob (o := rAt h1 98 (((4 : Int32) * x0_5) + (2 : Int32))) (pc' := 242) (L' := [(0, .ref 92), (2, .int x0_2), (3, .int x0_3), (4, .int x0_4), (5, .int x0_5)]) (S' := fun z => [.int z, .int x0_3, .ref 92]) (h' := fun z => h1) rfl rfl rfl).trans (ob_cg fun x5 => ?_)
        refine (es_st 8 (pc' := 255) (L' := [(0, .ref 92), (2, .int x0_2), (3, .int x0_3), (4, .int x0_4), (5, .int x0_5)]) (S' := [.int (((4 : Int32) * x0_5) + (3 : Int32)), .ref 98, .int x5, .int x0_3, .ref 92]) (h' := h1) rfl).trans ?_
        refine (es_ob (o := rAt h1 98 (((4 : Int32) * x0_5) + (3 : Int32))) (pc' := 258) (L' := [(0, .ref 92), (2, .int x0_2), (3, .int x0_3), (4, .int x0_4), (5, .int x0_5)]) (S' := fun z => [.int z, .int x5, .int x0_3, .ref 92]) (h' := fun z => h1) rfl rfl rfl).trans (ob_cg fun x6 => ?_)
        refine (es_cV (b := true) (k' := 107) (pc' := 261) (as := [.ref 92, .int x0_3, .int x5, .int x6]) (S' := []) (L' := [(0, .ref 92), (2, .int x0_2), (3, .int x0_3), (4, .int x0_4), (5, .int x0_5)]) (h' := h1) rfl rfl rfl rfl rfl).trans (kV_cg fun h7 => ?_)
        exact es_cut rfl rfl rfl
      · exact es_cut rfl rfl rfl
    · exact es_cut rfl rfl rfl
theorem sX5_drivenBy_261 (B : Bool) (d : Nat) (hd : 4 ≤ d) (h : SG) (x0_2 : Int32) (x0_3 : Int32) (x0_4 : Int32) (x0_5 : Int32) : evS B d 104 261 [(0, .ref 92), (2, .int x0_2), (3, .int x0_3), (4, .int x0_4), (5, .int x0_5)] [] h = ob (rAt h 98 ((4 : Int32) * x0_5)) (fun x1 => if x1 = (2 : Int32) then kV (mS B (d - 1) 108 [.ref 92, .int x0_3, .int x0_5, .int x0_2] h) (fun h2 => evS B d 104 173 [(0, .ref 92), (2, .int x0_2), (3, .int x0_3), (4, .int x0_4), (5, .int (x0_5 + (1 : Int32)))] [] h2) else evS B d 104 173 [(0, .ref 92), (2, .int x0_2), (3, .int x0_3), (4, .int x0_4), (5, .int (x0_5 + (1 : Int32)))] [] h) := by
  obtain ⟨d, rfl⟩ : ∃ e, d = e + 4 := ⟨d - 4, by omega⟩
  refine (es_st 6 (pc' := 272) (L' := [(0, .ref 92), (2, .int x0_2), (3, .int x0_3), (4, .int x0_4), (5, .int x0_5)]) (S' := [.int ((4 : Int32) * x0_5), .ref 98]) (h' := h) rfl).trans ?_
  refine (es_ob (o := rAt h 98 ((4 : Int32) * x0_5)) (pc' := 275) (L' := [(0, .ref 92), (2, .int x0_2), (3, .int x0_3), (4, .int x0_4), (5, .int x0_5)]) (S' := fun z => [.int z]) (h' := fun z => h) rfl rfl rfl).trans (ob_cg fun x1 => ?_)
  refine (es_st 1 (pc' := 276) (L' := [(0, .ref 92), (2, .int x0_2), (3, .int x0_3), (4, .int x0_4), (5, .int x0_5)]) (S' := [.int (2 : Int32), .int x1]) (h' := h) rfl).trans ?_
  refine (is_ne (t := 287) rfl rfl rfl).trans (if_cg ?_ ?_)
  · refine (es_st 4 (pc' := 284) (L' := [(0, .ref 92), (2, .int x0_2), (3, .int x0_3), (4, .int x0_4), (5, .int x0_5)]) (S' := [.int x0_2, .int x0_5, .int x0_3, .ref 92]) (h' := h) rfl).trans ?_
    refine (es_cV (b := true) (k' := 108) (pc' := 287) (as := [.ref 92, .int x0_3, .int x0_5, .int x0_2]) (S' := []) (L' := [(0, .ref 92), (2, .int x0_2), (3, .int x0_3), (4, .int x0_4), (5, .int x0_5)]) (h' := h) rfl rfl rfl rfl rfl).trans (kV_cg fun h2 => ?_)
    refine (es_st 2 (pc' := 173) (L' := [(5, .int (x0_5 + (1 : Int32))), (0, .ref 92), (2, .int x0_2), (3, .int x0_3), (4, .int x0_4)]) (S' := []) (h' := h2) rfl).trans ?_
    exact es_cut rfl rfl rfl
  · refine (es_st 2 (pc' := 173) (L' := [(5, .int (x0_5 + (1 : Int32))), (0, .ref 92), (2, .int x0_2), (3, .int x0_3), (4, .int x0_4)]) (S' := []) (h' := h) rfl).trans ?_
    exact es_cut rfl rfl rfl
theorem sX5_symbolA_0 (B : Bool) (d : Nat) (hd : 4 ≤ d) (h : SG) (x0_1 : Int32) : mS B d 105 [.ref 40, .int x0_1] h = ob (rAt h 67 ((3 : Int32) * x0_1)) (fun x1 => some (.inl (some (.int x1)), h)) := by
  obtain ⟨d, rfl⟩ : ∃ e, d = e + 4 := ⟨d - 4, by omega⟩
  show evS B (d + 4) 105 0 [(0, .ref 40), (1, .int x0_1)] [] h = _
  refine (es_st 5 (pc' := 7) (L' := [(0, .ref 40), (1, .int x0_1)]) (S' := [.int ((3 : Int32) * x0_1), .ref 67]) (h' := h) rfl).trans ?_
  refine (es_ob (o := rAt h 67 ((3 : Int32) * x0_1)) (pc' := 10) (L' := [(0, .ref 40), (1, .int x0_1)]) (S' := fun z => [.int z]) (h' := fun z => h) rfl rfl rfl).trans (ob_cg fun x1 => ?_)
  exact es_fin rfl rfl rfl
theorem sX5_symbol_0 (B : Bool) (d : Nat) (hd : 4 ≤ d) (h : SG) (x0_1 : Int32) : mS B d 105 [.ref 92, .int x0_1] h = ob (rAt h 119 ((3 : Int32) * x0_1)) (fun x1 => some (.inl (some (.int x1)), h)) := by
  obtain ⟨d, rfl⟩ : ∃ e, d = e + 4 := ⟨d - 4, by omega⟩
  show evS B (d + 4) 105 0 [(0, .ref 92), (1, .int x0_1)] [] h = _
  refine (es_st 5 (pc' := 7) (L' := [(0, .ref 92), (1, .int x0_1)]) (S' := [.int ((3 : Int32) * x0_1), .ref 119]) (h' := h) rfl).trans ?_
  refine (es_ob (o := rAt h 119 ((3 : Int32) * x0_1)) (pc' := 10) (L' := [(0, .ref 92), (1, .int x0_1)]) (S' := fun z => [.int z]) (h' := fun z => h) rfl rfl rfl).trans (ob_cg fun x1 => ?_)
  exact es_fin rfl rfl rfl
theorem sX5_isInputA_0 (B : Bool) (d : Nat) (hd : 4 ≤ d) (h : SG) (x0_1 : Int32) : mS B d 106 [.ref 40, .int x0_1] h = ob (rAt h 67 (((3 : Int32) * x0_1) + (1 : Int32))) (fun x1 => if x1 = 0 then kI (mS B (d - 1) 105 [.ref 40, .int x0_1] h) (fun x3 h2 => kI (mS B (d - 1) 138 [.ref 41, .int x3] h2) (fun x5 h4 => if x5 = 0 then some (.inl (some (.int (1 : Int32))), h4) else some (.inl (some (.int (0 : Int32))), h4))) else some (.inl (some (.int (0 : Int32))), h)) := by
  obtain ⟨d, rfl⟩ : ∃ e, d = e + 4 := ⟨d - 4, by omega⟩
  show evS B (d + 4) 106 0 [(0, .ref 40), (1, .int x0_1)] [] h = _
  refine (es_st 7 (pc' := 9) (L' := [(0, .ref 40), (1, .int x0_1)]) (S' := [.int (((3 : Int32) * x0_1) + (1 : Int32)), .ref 67]) (h' := h) rfl).trans ?_
  refine (es_ob (o := rAt h 67 (((3 : Int32) * x0_1) + (1 : Int32))) (pc' := 12) (L' := [(0, .ref 40), (1, .int x0_1)]) (S' := fun z => [.int z]) (h' := fun z => h) rfl rfl rfl).trans (ob_cg fun x1 => ?_)
  refine (zs_ne (t := 34) rfl rfl rfl).trans (if_cg ?_ ?_)
  · refine (es_st 4 (pc' := 21) (L' := [(0, .ref 40), (1, .int x0_1)]) (S' := [.int x0_1, .ref 40, .ref 41]) (h' := h) rfl).trans ?_
    refine (es_cI (b := true) (k' := 105) (pc' := 24) (as := [.ref 40, .int x0_1]) (S' := [.ref 41]) (L' := [(0, .ref 40), (1, .int x0_1)]) (h' := h) rfl rfl rfl rfl rfl).trans (kI_cg fun x3 h2 => ?_)
    refine (es_cI (b := true) (k' := 138) (pc' := 27) (as := [.ref 41, .int x3]) (S' := []) (L' := [(0, .ref 40), (1, .int x0_1)]) (h' := h2) rfl rfl rfl rfl rfl).trans (kI_cg fun x5 h4 => ?_)
    refine (zs_ne (t := 34) rfl rfl rfl).trans (if_cg ?_ ?_)
    · refine (es_st 2 (pc' := 35) (L' := [(0, .ref 40), (1, .int x0_1)]) (S' := [.int (1 : Int32)]) (h' := h4) rfl).trans ?_
      exact es_fin rfl rfl rfl
    · refine (es_st 1 (pc' := 35) (L' := [(0, .ref 40), (1, .int x0_1)]) (S' := [.int (0 : Int32)]) (h' := h4) rfl).trans ?_
      exact es_fin rfl rfl rfl
  · refine (es_st 1 (pc' := 35) (L' := [(0, .ref 40), (1, .int x0_1)]) (S' := [.int (0 : Int32)]) (h' := h) rfl).trans ?_
    exact es_fin rfl rfl rfl
theorem sX5_isInput_0 (B : Bool) (d : Nat) (hd : 4 ≤ d) (h : SG) (x0_1 : Int32) : mS B d 106 [.ref 92, .int x0_1] h = ob (rAt h 119 (((3 : Int32) * x0_1) + (1 : Int32))) (fun x1 => if x1 = 0 then kI (mS B (d - 1) 105 [.ref 92, .int x0_1] h) (fun x3 h2 => kI (mS B (d - 1) 138 [.ref 93, .int x3] h2) (fun x5 h4 => if x5 = 0 then some (.inl (some (.int (1 : Int32))), h4) else some (.inl (some (.int (0 : Int32))), h4))) else some (.inl (some (.int (0 : Int32))), h)) := by
  obtain ⟨d, rfl⟩ : ∃ e, d = e + 4 := ⟨d - 4, by omega⟩
  show evS B (d + 4) 106 0 [(0, .ref 92), (1, .int x0_1)] [] h = _
  refine (es_st 7 (pc' := 9) (L' := [(0, .ref 92), (1, .int x0_1)]) (S' := [.int (((3 : Int32) * x0_1) + (1 : Int32)), .ref 119]) (h' := h) rfl).trans ?_
  refine (es_ob (o := rAt h 119 (((3 : Int32) * x0_1) + (1 : Int32))) (pc' := 12) (L' := [(0, .ref 92), (1, .int x0_1)]) (S' := fun z => [.int z]) (h' := fun z => h) rfl rfl rfl).trans (ob_cg fun x1 => ?_)
  refine (zs_ne (t := 34) rfl rfl rfl).trans (if_cg ?_ ?_)
  · refine (es_st 4 (pc' := 21) (L' := [(0, .ref 92), (1, .int x0_1)]) (S' := [.int x0_1, .ref 92, .ref 93]) (h' := h) rfl).trans ?_
    refine (es_cI (b := true) (k' := 105) (pc' := 24) (as := [.ref 92, .int x0_1]) (S' := [.ref 93]) (L' := [(0, .ref 92), (1, .int x0_1)]) (h' := h) rfl rfl rfl rfl rfl).trans (kI_cg fun x3 h2 => ?_)
    refine (es_cI (b := true) (k' := 138) (pc' := 27) (as := [.ref 93, .int x3]) (S' := []) (L' := [(0, .ref 92), (1, .int x0_1)]) (h' := h2) rfl rfl rfl rfl rfl).trans (kI_cg fun x5 h4 => ?_)
    refine (zs_ne (t := 34) rfl rfl rfl).trans (if_cg ?_ ?_)
    · refine (es_st 2 (pc' := 35) (L' := [(0, .ref 92), (1, .int x0_1)]) (S' := [.int (1 : Int32)]) (h' := h4) rfl).trans ?_
      exact es_fin rfl rfl rfl
    · refine (es_st 1 (pc' := 35) (L' := [(0, .ref 92), (1, .int x0_1)]) (S' := [.int (0 : Int32)]) (h' := h4) rfl).trans ?_
      exact es_fin rfl rfl rfl
  · refine (es_st 1 (pc' := 35) (L' := [(0, .ref 92), (1, .int x0_1)]) (S' := [.int (0 : Int32)]) (h' := h) rfl).trans ?_
    exact es_fin rfl rfl rfl
theorem sX5_span_0 (B : Bool) (d : Nat) (h : SG) (x0_1 : Int32) (x0_2 : Int32) (x0_3 : Int32) : mS B d 107 [.ref 92, .int x0_1, .int x0_2, .int x0_3] h = some (.inl none, (uF (uF (uF h 92 21 x0_1) 92 22 x0_2) 92 23 x0_3)) := by
  show evS B d 107 0 [(0, .ref 92), (1, .int x0_1), (2, .int x0_2), (3, .int x0_3)] [] h = _
  refine (es_st 9 (pc' := 15) (L' := [(0, .ref 92), (1, .int x0_1), (2, .int x0_2), (3, .int x0_3)]) (S' := []) (h' := (uF (uF (uF h 92 21 x0_1) 92 22 x0_2) 92 23 x0_3)) rfl).trans ?_
  exact es_fin rfl rfl rfl
theorem sX5_linked_0 (B : Bool) (d : Nat) (hd : 4 ≤ d) (h : SG) (x0_1 : Int32) (x0_2 : Int32) (x0_3 : Int32) : mS B d 108 [.ref 92, .int x0_1, .int x0_2, .int x0_3] h = ob (rAt h 98 (((4 : Int32) * x0_2) + (1 : Int32))) (fun x1 => kI (mS B (d - 1) 136 [.ref 93, .int x1, .int (7 : Int32)] h) (fun x3 h2 => ob (rAt h2 98 (((4 : Int32) * x0_2) + (2 : Int32))) (fun x4 => evS B d 108 46 [(0, .ref 92), (1, .int x0_1), (2, .int x0_2), (3, .int x0_3), (4, .int x3), (5, .int x4), (6, .int (0 : Int32))] [] h2))) := by
  obtain ⟨d, rfl⟩ : ∃ e, d = e + 4 := ⟨d - 4, by omega⟩
  show evS B (d + 4) 108 0 [(0, .ref 92), (1, .int x0_1), (2, .int x0_2), (3, .int x0_3)] [] h = _
  refine (es_st 10 (pc' := 16) (L' := [(0, .ref 92), (1, .int x0_1), (2, .int x0_2), (3, .int x0_3)]) (S' := [.int (((4 : Int32) * x0_2) + (1 : Int32)), .ref 98, .ref 93]) (h' := h) rfl).trans ?_
  refine (es_ob (o := rAt h 98 (((4 : Int32) * x0_2) + (1 : Int32))) (pc' := 19) (L' := [(0, .ref 92), (1, .int x0_1), (2, .int x0_2), (3, .int x0_3)]) (S' := fun z => [.int z, .ref 93]) (h' := fun z => h) rfl rfl rfl).trans (ob_cg fun x1 => ?_)
  refine (es_st 1 (pc' := 21) (L' := [(0, .ref 92), (1, .int x0_1), (2, .int x0_2), (3, .int x0_3)]) (S' := [.int (7 : Int32), .int x1, .ref 93]) (h' := h) rfl).trans ?_
  refine (es_cI (b := true) (k' := 136) (pc' := 24) (as := [.ref 93, .int x1, .int (7 : Int32)]) (S' := []) (L' := [(0, .ref 92), (1, .int x0_1), (2, .int x0_2), (3, .int x0_3)]) (h' := h) rfl rfl rfl rfl rfl).trans (kI_cg fun x3 h2 => ?_)
  refine (es_st 9 (pc' := 38) (L' := [(4, .int x3), (0, .ref 92), (1, .int x0_1), (2, .int x0_2), (3, .int x0_3)]) (S' := [.int (((4 : Int32) * x0_2) + (2 : Int32)), .ref 98]) (h' := h2) rfl).trans ?_
  refine (es_ob (o := rAt h2 98 (((4 : Int32) * x0_2) + (2 : Int32))) (pc' := 41) (L' := [(4, .int x3), (0, .ref 92), (1, .int x0_1), (2, .int x0_2), (3, .int x0_3)]) (S' := fun z => [.int z]) (h' := fun z => h2) rfl rfl rfl).trans (ob_cg fun x4 => ?_)
  refine (es_st 3 (pc' := 46) (L' := [(6, .int (0 : Int32)), (5, .int x4), (4, .int x3), (0, .ref 92), (1, .int x0_1), (2, .int x0_2), (3, .int x0_3)]) (S' := []) (h' := h2) rfl).trans ?_
  exact es_cut rfl rfl rfl
theorem sX5_linked_46 (B : Bool) (d : Nat) (hd : 4 ≤ d) (h : SG) (x0_1 : Int32) (x0_2 : Int32) (x0_3 : Int32) (x0_4 : Int32) (x0_5 : Int32) (x0_6 : Int32) : evS B d 108 46 [(0, .ref 92), (1, .int x0_1), (2, .int x0_2), (3, .int x0_3), (4, .int x0_4), (5, .int x0_5), (6, .int x0_6)] [] h = kI (mS B (d - 1) 141 [.ref 93, .int x0_4] h) (fun x2 h1 => if x2 ≤ x0_6 then some (.inl none, h1) else ob (rAt h1 100 (x0_5 + ((3 : Int32) * x0_6))) (fun x3 => if x3 = x0_3 then evS B d 108 87 [(0, .ref 92), (1, .int x0_1), (2, .int x0_2), (3, .int x0_3), (4, .int x0_4), (5, .int x0_5), (6, .int x0_6), (7, .int (0 : Int32))] [] h1 else evS B d 108 46 [(0, .ref 92), (1, .int x0_1), (2, .int x0_2), (3, .int x0_3), (4, .int x0_4), (5, .int x0_5), (6, .int (x0_6 + (1 : Int32)))] [] h1)) := by
  obtain ⟨d, rfl⟩ : ∃ e, d = e + 4 := ⟨d - 4, by omega⟩
  refine (es_st 4 (pc' := 54) (L' := [(0, .ref 92), (1, .int x0_1), (2, .int x0_2), (3, .int x0_3), (4, .int x0_4), (5, .int x0_5), (6, .int x0_6)]) (S' := [.int x0_4, .ref 93, .int x0_6]) (h' := h) rfl).trans ?_
  refine (es_cI (b := true) (k' := 141) (pc' := 57) (as := [.ref 93, .int x0_4]) (S' := [.int x0_6]) (L' := [(0, .ref 92), (1, .int x0_1), (2, .int x0_2), (3, .int x0_3), (4, .int x0_4), (5, .int x0_5), (6, .int x0_6)]) (h' := h) rfl rfl rfl rfl rfl).trans (kI_cg fun x2 h1 => ?_)
  refine (is_ge (t := 161) rfl rfl rfl).trans (if_cg ?_ ?_)
  · exact es_fin rfl rfl rfl
  · refine (es_st 8 (pc' := 74) (L' := [(0, .ref 92), (1, .int x0_1), (2, .int x0_2), (3, .int x0_3), (4, .int x0_4), (5, .int x0_5), (6, .int x0_6)]) (S' := [.int (x0_5 + ((3 : Int32) * x0_6)), .ref 100]) (h' := h1) rfl).trans ?_
    refine (es_ob (o := rAt h1 100 (x0_5 + ((3 : Int32) * x0_6))) (pc' := 77) (L' := [(0, .ref 92), (1, .int x0_1), (2, .int x0_2), (3, .int x0_3), (4, .int x0_4), (5, .int x0_5), (6, .int x0_6)]) (S' := fun z => [.int z]) (h' := fun z => h1) rfl rfl rfl).trans (ob_cg fun x3 => ?_)
    refine (es_st 1 (pc' := 78) (L' := [(0, .ref 92), (1, .int x0_1), (2, .int x0_2), (3, .int x0_3), (4, .int x0_4), (5, .int x0_5), (6, .int x0_6)]) (S' := [.int x0_3, .int x3]) (h' := h1) rfl).trans ?_
    refine (is_eq (t := 84) rfl rfl rfl).trans (if_cg ?_ ?_)
    · refine (es_st 2 (pc' := 87) (L' := [(7, .int (0 : Int32)), (0, .ref 92), (1, .int x0_1), (2, .int x0_2), (3, .int x0_3), (4, .int x0_4), (5, .int x0_5), (6, .int x0_6)]) (S' := []) (h' := h1) rfl).trans ?_
      exact es_cut rfl rfl rfl
    · refine (es_st 3 (pc' := 46) (L' := [(6, .int (x0_6 + (1 : Int32))), (0, .ref 92), (1, .int x0_1), (2, .int x0_2), (3, .int x0_3), (4, .int x0_4), (5, .int x0_5)]) (S' := []) (h' := h1) rfl).trans ?_
      exact es_cut rfl rfl rfl
theorem sX5_linked_87 (B : Bool) (d : Nat) (hd : 4 ≤ d) (h : SG) (x0_1 : Int32) (x0_2 : Int32) (x0_3 : Int32) (x0_4 : Int32) (x0_5 : Int32) (x0_6 : Int32) (x0_7 : Int32) : evS B d 108 87 [(0, .ref 92), (1, .int x0_1), (2, .int x0_2), (3, .int x0_3), (4, .int x0_4), (5, .int x0_5), (6, .int x0_6), (7, .int x0_7)] [] h = ob (rAt h 117 (((4 : Int32) * x0_7) + (1 : Int32))) (fun x1 => if x1 = x0_1 then ob (rAt h 117 (((4 : Int32) * x0_7) + (2 : Int32))) (fun x2 => if x2 = x0_2 then kI (mS B (d - 1) 134 [.ref 93, .int x0_4] (uF h 92 21 (-2 : Int32))) (fun x4 h3 => kI (mS B (d - 1) 109 [.ref 92, .int x0_7, .int (x4 + x0_6)] h3) (fun x6 h5 => evS B d 108 46 [(0, .ref 92), (1, .int x0_1), (2, .int x0_2), (3, .int x0_3), (4, .int x0_4), (5, .int x0_5), (6, .int (x0_6 + (1 : Int32)))] [] (uF h5 92 22 x6))) else evS B d 108 87 [(0, .ref 92), (1, .int x0_1), (2, .int x0_2), (3, .int x0_3), (4, .int x0_4), (5, .int x0_5), (6, .int x0_6), (7, .int (x0_7 + (1 : Int32)))] [] h) else evS B d 108 87 [(0, .ref 92), (1, .int x0_1), (2, .int x0_2), (3, .int x0_3), (4, .int x0_4), (5, .int x0_5), (6, .int x0_6), (7, .int (x0_7 + (1 : Int32)))] [] h) := by
  obtain ⟨d, rfl⟩ : ∃ e, d = e + 4 := ⟨d - 4, by omega⟩
  refine (es_st 7 (pc' := 97) (L' := [(0, .ref 92), (1, .int x0_1), (2, .int x0_2), (3, .int x0_3), (4, .int x0_4), (5, .int x0_5), (6, .int x0_6), (7, .int x0_7)]) (S' := [.int (((4 : Int32) * x0_7) + (1 : Int32)), .ref 117]) (h' := h) rfl).trans ?_
  refine (es_ob (o := rAt h 117 (((4 : Int32) * x0_7) + (1 : Int32))) (pc' := 100) (L' := [(0, .ref 92), (1, .int x0_1), (2, .int x0_2), (3, .int x0_3), (4, .int x0_4), (5, .int x0_5), (6, .int x0_6), (7, .int x0_7)]) (S' := fun z => [.int z]) (h' := fun z => h) rfl rfl rfl).trans (ob_cg fun x1 => ?_)
  refine (es_st 1 (pc' := 101) (L' := [(0, .ref 92), (1, .int x0_1), (2, .int x0_2), (3, .int x0_3), (4, .int x0_4), (5, .int x0_5), (6, .int x0_6), (7, .int x0_7)]) (S' := [.int x0_1, .int x1]) (h' := h) rfl).trans ?_
  refine (is_ne (t := 121) rfl rfl rfl).trans (if_cg ?_ ?_)
  · refine (es_st 7 (pc' := 114) (L' := [(0, .ref 92), (1, .int x0_1), (2, .int x0_2), (3, .int x0_3), (4, .int x0_4), (5, .int x0_5), (6, .int x0_6), (7, .int x0_7)]) (S' := [.int (((4 : Int32) * x0_7) + (2 : Int32)), .ref 117]) (h' := h) rfl).trans ?_
    refine (es_ob (o := rAt h 117 (((4 : Int32) * x0_7) + (2 : Int32))) (pc' := 117) (L' := [(0, .ref 92), (1, .int x0_1), (2, .int x0_2), (3, .int x0_3), (4, .int x0_4), (5, .int x0_5), (6, .int x0_6), (7, .int x0_7)]) (S' := fun z => [.int z]) (h' := fun z => h) rfl rfl rfl).trans (ob_cg fun x2 => ?_)
    refine (es_st 1 (pc' := 118) (L' := [(0, .ref 92), (1, .int x0_1), (2, .int x0_2), (3, .int x0_3), (4, .int x0_4), (5, .int x0_5), (6, .int x0_6), (7, .int x0_7)]) (S' := [.int x0_2, .int x2]) (h' := h) rfl).trans ?_
    refine (is_eq (t := 127) rfl rfl rfl).trans (if_cg ?_ ?_)
    · refine (es_st 9 (pc' := 143) (L' := [(0, .ref 92), (1, .int x0_1), (2, .int x0_2), (3, .int x0_3), (4, .int x0_4), (5, .int x0_5), (6, .int x0_6), (7, .int x0_7)]) (S' := [.int x0_4, .ref 93, .int x0_7, .ref 92, .ref 92]) (h' := (uF h 92 21 (-2 : Int32))) rfl).trans ?_
      refine (es_cI (b := true) (k' := 134) (pc' := 146) (as := [.ref 93, .int x0_4]) (S' := [.int x0_7, .ref 92, .ref 92]) (L' := [(0, .ref 92), (1, .int x0_1), (2, .int x0_2), (3, .int x0_3), (4, .int x0_4), (5, .int x0_5), (6, .int x0_6), (7, .int x0_7)]) (h' := (uF h 92 21 (-2 : Int32))) rfl rfl rfl rfl rfl).trans (kI_cg fun x4 h3 => ?_)
      refine (es_st 2 (pc' := 149) (L' := [(0, .ref 92), (1, .int x0_1), (2, .int x0_2), (3, .int x0_3), (4, .int x0_4), (5, .int x0_5), (6, .int x0_6), (7, .int x0_7)]) (S' := [.int (x4 + x0_6), .int x0_7, .ref 92, .ref 92]) (h' := h3) rfl).trans ?_
      refine (es_cI (b := true) (k' := 109) (pc' := 152) (as := [.ref 92, .int x0_7, .int (x4 + x0_6)]) (S' := [.ref 92]) (L' := [(0, .ref 92), (1, .int x0_1), (2, .int x0_2), (3, .int x0_3), (4, .int x0_4), (5, .int x0_5), (6, .int x0_6), (7, .int x0_7)]) (h' := h3) rfl rfl rfl rfl rfl).trans (kI_cg fun x6 h5 => ?_)
      refine (es_st 3 (pc' := 46) (L' := [(6, .int (x0_6 + (1 : Int32))), (0, .ref 92), (1, .int x0_1), (2, .int x0_2), (3, .int x0_3), (4, .int x0_4), (5, .int x0_5), (7, .int x0_7)]) (S' := []) (h' := (uF h5 92 22 x6)) rfl).trans ?_
      exact es_cut rfl rfl rfl
    · refine (es_st 2 (pc' := 87) (L' := [(7, .int (x0_7 + (1 : Int32))), (0, .ref 92), (1, .int x0_1), (2, .int x0_2), (3, .int x0_3), (4, .int x0_4), (5, .int x0_5), (6, .int x0_6)]) (S' := []) (h' := h) rfl).trans ?_
      exact es_cut rfl rfl rfl
  · refine (es_st 2 (pc' := 87) (L' := [(7, .int (x0_7 + (1 : Int32))), (0, .ref 92), (1, .int x0_1), (2, .int x0_2), (3, .int x0_3), (4, .int x0_4), (5, .int x0_5), (6, .int x0_6)]) (S' := []) (h' := h) rfl).trans ?_
    exact es_cut rfl rfl rfl
theorem sX5_signalA_0 (B : Bool) (d : Nat) (hd : 4 ≤ d) (h : SG) (x0_1 : Int32) (x0_2 : Int32) : mS B d 109 [.ref 40, .int x0_1, .int x0_2] h = ob (rAt h 65 (((4 : Int32) * x0_1) + (3 : Int32))) (fun x1 => kI (mS B (d - 1) 136 [.ref 41, .int x0_2, .int (7 : Int32)] h) (fun x3 h2 => some (.inl (some (.int (x1 + x3))), h2))) := by
  obtain ⟨d, rfl⟩ : ∃ e, d = e + 4 := ⟨d - 4, by omega⟩
  show evS B (d + 4) 109 0 [(0, .ref 40), (1, .int x0_1), (2, .int x0_2)] [] h = _
  refine (es_st 7 (pc' := 9) (L' := [(0, .ref 40), (1, .int x0_1), (2, .int x0_2)]) (S' := [.int (((4 : Int32) * x0_1) + (3 : Int32)), .ref 65]) (h' := h) rfl).trans ?_
  refine (es_ob (o := rAt h 65 (((4 : Int32) * x0_1) + (3 : Int32))) (pc' := 12) (L' := [(0, .ref 40), (1, .int x0_1), (2, .int x0_2)]) (S' := fun z => [.int z]) (h' := fun z => h) rfl rfl rfl).trans (ob_cg fun x1 => ?_)
  refine (es_st 4 (pc' := 19) (L' := [(0, .ref 40), (1, .int x0_1), (2, .int x0_2)]) (S' := [.int (7 : Int32), .int x0_2, .ref 41, .int x1]) (h' := h) rfl).trans ?_
  refine (es_cI (b := true) (k' := 136) (pc' := 22) (as := [.ref 41, .int x0_2, .int (7 : Int32)]) (S' := [.int x1]) (L' := [(0, .ref 40), (1, .int x0_1), (2, .int x0_2)]) (h' := h) rfl rfl rfl rfl rfl).trans (kI_cg fun x3 h2 => ?_)
  refine (es_st 1 (pc' := 23) (L' := [(0, .ref 40), (1, .int x0_1), (2, .int x0_2)]) (S' := [.int (x1 + x3)]) (h' := h2) rfl).trans ?_
  exact es_fin rfl rfl rfl
theorem sX5_signal_0 (B : Bool) (d : Nat) (hd : 4 ≤ d) (h : SG) (x0_1 : Int32) (x0_2 : Int32) : mS B d 109 [.ref 92, .int x0_1, .int x0_2] h = ob (rAt h 117 (((4 : Int32) * x0_1) + (3 : Int32))) (fun x1 => kI (mS B (d - 1) 136 [.ref 93, .int x0_2, .int (7 : Int32)] h) (fun x3 h2 => some (.inl (some (.int (x1 + x3))), h2))) := by
  obtain ⟨d, rfl⟩ : ∃ e, d = e + 4 := ⟨d - 4, by omega⟩
  show evS B (d + 4) 109 0 [(0, .ref 92), (1, .int x0_1), (2, .int x0_2)] [] h = _
  refine (es_st 7 (pc' := 9) (L' := [(0, .ref 92), (1, .int x0_1), (2, .int x0_2)]) (S' := [.int (((4 : Int32) * x0_1) + (3 : Int32)), .ref 117]) (h' := h) rfl).trans ?_
  refine (es_ob (o := rAt h 117 (((4 : Int32) * x0_1) + (3 : Int32))) (pc' := 12) (L' := [(0, .ref 92), (1, .int x0_1), (2, .int x0_2)]) (S' := fun z => [.int z]) (h' := fun z => h) rfl rfl rfl).trans (ob_cg fun x1 => ?_)
  refine (es_st 4 (pc' := 19) (L' := [(0, .ref 92), (1, .int x0_1), (2, .int x0_2)]) (S' := [.int (7 : Int32), .int x0_2, .ref 93, .int x1]) (h' := h) rfl).trans ?_
  refine (es_cI (b := true) (k' := 136) (pc' := 22) (as := [.ref 93, .int x0_2, .int (7 : Int32)]) (S' := [.int x1]) (L' := [(0, .ref 92), (1, .int x0_1), (2, .int x0_2)]) (h' := h) rfl rfl rfl rfl rfl).trans (kI_cg fun x3 h2 => ?_)
  refine (es_st 1 (pc' := 23) (L' := [(0, .ref 92), (1, .int x0_1), (2, .int x0_2)]) (S' := [.int (x1 + x3)]) (h' := h2) rfl).trans ?_
  exact es_fin rfl rfl rfl
theorem sX5_length_0 (B : Bool) (d : Nat) (hd : 4 ≤ d) (h : SG) (x0_1 : Int32) : mS B d 110 [.ref 92, .int x0_1] h = ob (rAt h 102 x0_1) (fun x1 => if x1 = (0 : Int32) then some (.inl (some (.int (4 : Int32))), h) else if x1 = (1 : Int32) then some (.inl (some (.int (2 : Int32))), h) else if x1 = (2 : Int32) then some (.inl (some (.int (3 : Int32))), h) else if x1 = (3 : Int32) then some (.inl (some (.int (1 : Int32))), h) else if x1 = (4 : Int32) then some (.inl (some (.int (2 : Int32))), h) else if x1 = (5 : Int32) then some (.inl (some (.int (2 : Int32))), h) else if x1 = (6 : Int32) then some (.inl (some (.int (1 : Int32))), h) else some (.inl (some (.int (2 : Int32))), h)) := by
  obtain ⟨d, rfl⟩ : ∃ e, d = e + 4 := ⟨d - 4, by omega⟩
  show evS B (d + 4) 110 0 [(0, .ref 92), (1, .int x0_1)] [] h = _
  refine (es_st 4 (pc' := 8) (L' := [(0, .ref 92), (1, .int x0_1)]) (S' := [.int x0_1, .ref 102]) (h' := h) rfl).trans ?_
  refine (es_ob (o := rAt h 102 x0_1) (pc' := 11) (L' := [(0, .ref 92), (1, .int x0_1)]) (S' := fun z => [.int z]) (h' := fun z => h) rfl rfl rfl).trans (ob_cg fun x1 => ?_)
  refine (es_sw (a := x1) (cs := [((0 : Int32), 52), ((1 : Int32), 58), ((2 : Int32), 54), ((3 : Int32), 56), ((4 : Int32), 58), ((5 : Int32), 58), ((6 : Int32), 56)]) (df := 58) (L' := [(0, .ref 92), (1, .int x0_1)]) (S' := []) rfl rfl rfl).trans ?_
  refine ss_cons.trans (if_cg ?_ ?_)
  · refine (es_st 1 (pc' := 53) (L' := [(0, .ref 92), (1, .int x0_1)]) (S' := [.int (4 : Int32)]) (h' := h) rfl).trans ?_
    exact es_fin rfl rfl rfl
  · refine ss_cons.trans (if_cg ?_ ?_)
    · refine (es_st 1 (pc' := 59) (L' := [(0, .ref 92), (1, .int x0_1)]) (S' := [.int (2 : Int32)]) (h' := h) rfl).trans ?_
      exact es_fin rfl rfl rfl
    · refine ss_cons.trans (if_cg ?_ ?_)
      · refine (es_st 1 (pc' := 55) (L' := [(0, .ref 92), (1, .int x0_1)]) (S' := [.int (3 : Int32)]) (h' := h) rfl).trans ?_
        exact es_fin rfl rfl rfl
      · refine ss_cons.trans (if_cg ?_ ?_)
        · refine (es_st 1 (pc' := 57) (L' := [(0, .ref 92), (1, .int x0_1)]) (S' := [.int (1 : Int32)]) (h' := h) rfl).trans ?_
          exact es_fin rfl rfl rfl
        · refine ss_cons.trans (if_cg ?_ ?_)
          · refine (es_st 1 (pc' := 59) (L' := [(0, .ref 92), (1, .int x0_1)]) (S' := [.int (2 : Int32)]) (h' := h) rfl).trans ?_
            exact es_fin rfl rfl rfl
          · refine ss_cons.trans (if_cg ?_ ?_)
            · refine (es_st 1 (pc' := 59) (L' := [(0, .ref 92), (1, .int x0_1)]) (S' := [.int (2 : Int32)]) (h' := h) rfl).trans ?_
              exact es_fin rfl rfl rfl
            · refine ss_cons.trans (if_cg ?_ ?_)
              · refine (es_st 1 (pc' := 57) (L' := [(0, .ref 92), (1, .int x0_1)]) (S' := [.int (1 : Int32)]) (h' := h) rfl).trans ?_
                exact es_fin rfl rfl rfl
              · refine (es_st 1 (pc' := 59) (L' := [(0, .ref 92), (1, .int x0_1)]) (S' := [.int (2 : Int32)]) (h' := h) rfl).trans ?_
                exact es_fin rfl rfl rfl
theorem sX5_rounds_0 (B : Bool) (d : Nat) (hd : 1 ≤ d) (h : SG) : mS B d 111 [.ref 92] h = evS B d 111 2 [(0, .ref 92), (1, .int (0 : Int32))] [] h := by
  obtain ⟨d, rfl⟩ : ∃ e, d = e + 1 := ⟨d - 1, by omega⟩
  show evS B (d + 1) 111 0 [(0, .ref 92)] [] h = _
  refine (es_st 2 (pc' := 2) (L' := [(1, .int (0 : Int32)), (0, .ref 92)]) (S' := []) (h' := h) rfl).trans ?_
  exact es_cut rfl rfl rfl
theorem sX5_rounds_2 (B : Bool) (d : Nat) (hd : 1 ≤ d) (h : SG) (x0_1 : Int32) : evS B d 111 2 [(0, .ref 92), (1, .int x0_1)] [] h = if ((Int32.ofNat (sW h 119).length) / (3 : Int32)) ≤ x0_1 then some (.inl none, h) else kI (mS B (d - 1) 112 [.ref 92, .int x0_1] h) (fun x2 h1 => if x2 = 0 then kI (mS B (d - 1) 113 [.ref 92, .int x0_1] h1) (fun x4 h3 => if x4 = 0 then evS B d 111 2 [(0, .ref 92), (1, .int (x0_1 + (1 : Int32)))] [] h3 else kI (mS B (d - 1) 105 [.ref 92, .int x0_1] h3) (fun x6 h5 => kI (mS B (d - 1) 136 [.ref 93, .int x6, .int (6 : Int32)] h5) (fun x8 h7 => kR (mS B (d - 1) 33 [.ref 27, .int (45 : Int32), .int x8] h7) (fun a10 h9 => ckS (Nat.beq a10 29) (some (.inr 0, h9)))))) else evS B d 111 2 [(0, .ref 92), (1, .int (x0_1 + (1 : Int32)))] [] h1) := by
  obtain ⟨d, rfl⟩ : ∃ e, d = e + 1 := ⟨d - 1, by omega⟩
  refine (es_st 6 (pc' := 12) (L' := [(0, .ref 92), (1, .int x0_1)]) (S' := [.int ((Int32.ofNat (sW h 119).length) / (3 : Int32)), .int x0_1]) (h' := h) rfl).trans ?_
  refine (is_ge (t := 61) rfl rfl rfl).trans (if_cg ?_ ?_)
  · exact es_fin rfl rfl rfl
  · refine (es_st 2 (pc' := 17) (L' := [(0, .ref 92), (1, .int x0_1)]) (S' := [.int x0_1, .ref 92]) (h' := h) rfl).trans ?_
    refine (es_cI (b := true) (k' := 112) (pc' := 20) (as := [.ref 92, .int x0_1]) (S' := []) (L' := [(0, .ref 92), (1, .int x0_1)]) (h' := h) rfl rfl rfl rfl rfl).trans (kI_cg fun x2 h1 => ?_)
    refine (zs_ne (t := 55) rfl rfl rfl).trans (if_cg ?_ ?_)
    · refine (es_st 2 (pc' := 25) (L' := [(0, .ref 92), (1, .int x0_1)]) (S' := [.int x0_1, .ref 92]) (h' := h1) rfl).trans ?_
      refine (es_cI (b := true) (k' := 113) (pc' := 28) (as := [.ref 92, .int x0_1]) (S' := []) (L' := [(0, .ref 92), (1, .int x0_1)]) (h' := h1) rfl rfl rfl rfl rfl).trans (kI_cg fun x4 h3 => ?_)
      refine (zs_eq (t := 55) rfl rfl rfl).trans (if_cg ?_ ?_)
      · refine (es_st 2 (pc' := 2) (L' := [(1, .int (x0_1 + (1 : Int32))), (0, .ref 92)]) (S' := []) (h' := h3) rfl).trans ?_
        exact es_cut rfl rfl rfl
      · refine (es_st 7 (pc' := 43) (L' := [(0, .ref 92), (1, .int x0_1)]) (S' := [.int x0_1, .ref 92, .ref 93, .int (45 : Int32), .ref 27]) (h' := h3) rfl).trans ?_
        refine (es_cI (b := true) (k' := 105) (pc' := 46) (as := [.ref 92, .int x0_1]) (S' := [.ref 93, .int (45 : Int32), .ref 27]) (L' := [(0, .ref 92), (1, .int x0_1)]) (h' := h3) rfl rfl rfl rfl rfl).trans (kI_cg fun x6 h5 => ?_)
        refine (es_st 1 (pc' := 48) (L' := [(0, .ref 92), (1, .int x0_1)]) (S' := [.int (6 : Int32), .int x6, .ref 93, .int (45 : Int32), .ref 27]) (h' := h5) rfl).trans ?_
        refine (es_cI (b := true) (k' := 136) (pc' := 51) (as := [.ref 93, .int x6, .int (6 : Int32)]) (S' := [.int (45 : Int32), .ref 27]) (L' := [(0, .ref 92), (1, .int x0_1)]) (h' := h5) rfl rfl rfl rfl rfl).trans (kI_cg fun x8 h7 => ?_)
        refine (es_cR (b := true) (k' := 33) (pc' := 54) (as := [.ref 27, .int (45 : Int32), .int x8]) (S' := []) (L' := [(0, .ref 92), (1, .int x0_1)]) (h' := h7) rfl rfl rfl rfl rfl).trans (kR_cg fun a10 h9 => ?_)
        exact es_thr rfl rfl rfl
    · refine (es_st 2 (pc' := 2) (L' := [(1, .int (x0_1 + (1 : Int32))), (0, .ref 92)]) (S' := []) (h' := h1) rfl).trans ?_
      exact es_cut rfl rfl rfl
theorem sX5_isRegisterA_0 (B : Bool) (d : Nat) (hd : 1 ≤ d) (h : SG) (x0_1 : Int32) : mS B d 112 [.ref 40, .int x0_1] h = kI (mS B (d - 1) 105 [.ref 40, .int x0_1] h) (fun x2 h1 => kI (mS B (d - 1) 140 [.ref 41, .int x2] h1) (fun x4 h3 => if x4 = 0 ∨ x4 = 1 then some (.inl (some (.int x4)), h3) else none)) := by
  obtain ⟨d, rfl⟩ : ∃ e, d = e + 1 := ⟨d - 1, by omega⟩
  show evS B (d + 1) 112 0 [(0, .ref 40), (1, .int x0_1)] [] h = _
  refine (es_st 4 (pc' := 6) (L' := [(0, .ref 40), (1, .int x0_1)]) (S' := [.int x0_1, .ref 40, .ref 41]) (h' := h) rfl).trans ?_
  refine (es_cI (b := true) (k' := 105) (pc' := 9) (as := [.ref 40, .int x0_1]) (S' := [.ref 41]) (L' := [(0, .ref 40), (1, .int x0_1)]) (h' := h) rfl rfl rfl rfl rfl).trans (kI_cg fun x2 h1 => ?_)
  refine (es_cI (b := true) (k' := 140) (pc' := 12) (as := [.ref 41, .int x2]) (S' := []) (L' := [(0, .ref 40), (1, .int x0_1)]) (h' := h1) rfl rfl rfl rfl rfl).trans (kI_cg fun x4 h3 => ?_)
  exact es_finZ rfl rfl rfl
theorem sX5_isRegister_0 (B : Bool) (d : Nat) (hd : 1 ≤ d) (h : SG) (x0_1 : Int32) : mS B d 112 [.ref 92, .int x0_1] h = kI (mS B (d - 1) 105 [.ref 92, .int x0_1] h) (fun x2 h1 => kI (mS B (d - 1) 140 [.ref 93, .int x2] h1) (fun x4 h3 => if x4 = 0 ∨ x4 = 1 then some (.inl (some (.int x4)), h3) else none)) := by
  obtain ⟨d, rfl⟩ : ∃ e, d = e + 1 := ⟨d - 1, by omega⟩
  show evS B (d + 1) 112 0 [(0, .ref 92), (1, .int x0_1)] [] h = _
  refine (es_st 4 (pc' := 6) (L' := [(0, .ref 92), (1, .int x0_1)]) (S' := [.int x0_1, .ref 92, .ref 93]) (h' := h) rfl).trans ?_
  refine (es_cI (b := true) (k' := 105) (pc' := 9) (as := [.ref 92, .int x0_1]) (S' := [.ref 93]) (L' := [(0, .ref 92), (1, .int x0_1)]) (h' := h) rfl rfl rfl rfl rfl).trans (kI_cg fun x2 h1 => ?_)
  refine (es_cI (b := true) (k' := 140) (pc' := 12) (as := [.ref 93, .int x2]) (S' := []) (L' := [(0, .ref 92), (1, .int x0_1)]) (h' := h1) rfl rfl rfl rfl rfl).trans (kI_cg fun x4 h3 => ?_)
  exact es_finZ rfl rfl rfl
theorem sX5_isRound_0 (B : Bool) (d : Nat) (hd : 4 ≤ d) (h : SG) (x0_1 : Int32) : mS B d 113 [.ref 92, .int x0_1] h = evS B d 113 2 [(0, .ref 92), (1, .int x0_1), (2, .int (0 : Int32))] [] h := by
  obtain ⟨d, rfl⟩ : ∃ e, d = e + 4 := ⟨d - 4, by omega⟩
  show evS B (d + 4) 113 0 [(0, .ref 92), (1, .int x0_1)] [] h = _
  refine (es_st 2 (pc' := 2) (L' := [(2, .int (0 : Int32)), (0, .ref 92), (1, .int x0_1)]) (S' := []) (h' := h) rfl).trans ?_
  exact es_cut rfl rfl rfl
theorem sX5_isRound_2 (B : Bool) (d : Nat) (hd : 4 ≤ d) (h : SG) (x0_1 : Int32) (x0_2 : Int32) : evS B d 113 2 [(0, .ref 92), (1, .int x0_1), (2, .int x0_2)] [] h = if ((Int32.ofNat (sW h 119).length) / (3 : Int32)) ≤ x0_2 then ob (pSz h 138 (0 : Int32)) (fun h1 => ob (rAdd h1 138 x0_1) (fun q2 => evS B d 113 45 [(0, .ref 92), (1, .int x0_1)] [] q2.2)) else if ixN x0_2 1024 = true then evS B d 113 2 [(0, .ref 92), (1, .int x0_1), (2, .int (x0_2 + (1 : Int32)))] [] (uF h 137 x0_2.toNatClampNeg (0 : Int32)) else none := by
  obtain ⟨d, rfl⟩ : ∃ e, d = e + 4 := ⟨d - 4, by omega⟩
  refine (es_st 6 (pc' := 12) (L' := [(0, .ref 92), (1, .int x0_1), (2, .int x0_2)]) (S' := [.int ((Int32.ofNat (sW h 119).length) / (3 : Int32)), .int x0_2]) (h' := h) rfl).trans ?_
  refine (is_ge (t := 28) rfl rfl rfl).trans (if_cg ?_ ?_)
  · refine (es_st 3 (pc' := 33) (L' := [(0, .ref 92), (1, .int x0_1), (2, .int x0_2)]) (S' := [.int (0 : Int32), .ref 138]) (h' := h) rfl).trans ?_
    refine (es_ob (o := pSz h 138 (0 : Int32)) (pc' := 36) (L' := [(0, .ref 92), (1, .int x0_1), (2, .int x0_2)]) (S' := fun z => []) (h' := fun z => z) rfl rfl rfl).trans (ob_cg fun h1 => ?_)
    refine (es_st 3 (pc' := 41) (L' := [(0, .ref 92), (1, .int x0_1), (2, .int x0_2)]) (S' := [.int x0_1, .ref 138]) (h' := h1) rfl).trans ?_
    refine (es_ob (o := rAdd h1 138 x0_1) (pc' := 44) (L' := [(0, .ref 92), (1, .int x0_1), (2, .int x0_2)]) (S' := fun z => [.int z.1]) (h' := fun z => z.2) rfl rfl rfl).trans (ob_cg fun q2 => ?_)
    refine (es_st 1 (pc' := 45) (L' := [(0, .ref 92), (1, .int x0_1), (2, .int x0_2)]) (S' := []) (h' := q2.2) rfl).trans ?_
    exact es_cut rfl rfl rfl
  · refine (es_st 4 (pc' := 21) (L' := [(0, .ref 92), (1, .int x0_1), (2, .int x0_2)]) (S' := [.int (0 : Int32), .int x0_2, .ref 137]) (h' := h) rfl).trans ?_
    refine (es_ix (c := ixN x0_2 1024 = true) (x := (uF h 137 x0_2.toNatClampNeg (0 : Int32))) (pc' := 22) (L' := [(0, .ref 92), (1, .int x0_1), (2, .int x0_2)]) (S' := fun z => []) (h' := fun z => z) rfl rfl rfl).trans (if_cgn ?_)
    refine (es_st 2 (pc' := 2) (L' := [(2, .int (x0_2 + (1 : Int32))), (0, .ref 92), (1, .int x0_1)]) (S' := []) (h' := (uF h 137 x0_2.toNatClampNeg (0 : Int32))) rfl).trans ?_
    exact es_cut rfl rfl rfl
theorem sX5_isRound_45 (B : Bool) (d : Nat) (hd : 4 ≤ d) (h : SG) (x0_1 : Int32) : evS B d 113 45 [(0, .ref 92), (1, .int x0_1)] [] h = if (Int32.ofNat (sW h 138).length) ≤ 0 then some (.inl (some (.int (0 : Int32))), h) else ob (rTake h 138) (fun q1 => ob (rAt q1.2 125 q1.1) (fun x2 => evS B d 113 72 [(0, .ref 92), (1, .int x0_1), (2, .int q1.1), (3, .int x2)] [] q1.2)) := by
  obtain ⟨d, rfl⟩ : ∃ e, d = e + 4 := ⟨d - 4, by omega⟩
  refine (es_st 3 (pc' := 52) (L' := [(0, .ref 92), (1, .int x0_1)]) (S' := [.int (Int32.ofNat (sW h 138).length)]) (h' := h) rfl).trans ?_
  refine (zs_le (t := 141) rfl rfl rfl).trans (if_cg ?_ ?_)
  · refine (es_st 1 (pc' := 142) (L' := [(0, .ref 92), (1, .int x0_1)]) (S' := [.int (0 : Int32)]) (h' := h) rfl).trans ?_
    exact es_fin rfl rfl rfl
  · refine (es_st 2 (pc' := 59) (L' := [(0, .ref 92), (1, .int x0_1)]) (S' := [.ref 138]) (h' := h) rfl).trans ?_
    refine (es_ob (o := rTake h 138) (pc' := 62) (L' := [(0, .ref 92), (1, .int x0_1)]) (S' := fun z => [.int z.1]) (h' := fun z => z.2) rfl rfl rfl).trans (ob_cg fun q1 => ?_)
    refine (es_st 4 (pc' := 68) (L' := [(2, .int q1.1), (0, .ref 92), (1, .int x0_1)]) (S' := [.int q1.1, .ref 125]) (h' := q1.2) rfl).trans ?_
    refine (es_ob (o := rAt q1.2 125 q1.1) (pc' := 71) (L' := [(2, .int q1.1), (0, .ref 92), (1, .int x0_1)]) (S' := fun z => [.int z]) (h' := fun z => q1.2) rfl rfl rfl).trans (ob_cg fun x2 => ?_)
    refine (es_st 1 (pc' := 72) (L' := [(3, .int x2), (2, .int q1.1), (0, .ref 92), (1, .int x0_1)]) (S' := []) (h' := q1.2) rfl).trans ?_
    exact es_cut rfl rfl rfl
theorem sX5_isRound_72 (B : Bool) (d : Nat) (hd : 4 ≤ d) (h : SG) (x0_1 : Int32) (x0_2 : Int32) (x0_3 : Int32) : evS B d 113 72 [(0, .ref 92), (1, .int x0_1), (2, .int x0_2), (3, .int x0_3)] [] h = ob (rAt h 125 (x0_2 + (1 : Int32))) (fun x1 => if x1 ≤ x0_3 then evS B d 113 45 [(0, .ref 92), (1, .int x0_1)] [] h else ob (rAt h 123 x0_3) (fun x2 => if x2 = x0_1 then some (.inl (some (.int (1 : Int32))), h) else if ixN x2 1024 = true then if (sF h 137 x2.toNatClampNeg) = 0 then if ixN x2 1024 = true then ob (rAdd (uF h 137 x2.toNatClampNeg (1 : Int32)) 138 x2) (fun q3 => evS B d 113 72 [(0, .ref 92), (1, .int x0_1), (2, .int x0_2), (3, .int (x0_3 + (1 : Int32)))] [] q3.2) else none else evS B d 113 72 [(0, .ref 92), (1, .int x0_1), (2, .int x0_2), (3, .int (x0_3 + (1 : Int32)))] [] h else none)) := by
  obtain ⟨d, rfl⟩ : ∃ e, d = e + 4 := ⟨d - 4, by omega⟩
  refine (es_st 6 (pc' := 80) (L' := [(0, .ref 92), (1, .int x0_1), (2, .int x0_2), (3, .int x0_3)]) (S' := [.int (x0_2 + (1 : Int32)), .ref 125, .int x0_3]) (h' := h) rfl).trans ?_
  refine (es_ob (o := rAt h 125 (x0_2 + (1 : Int32))) (pc' := 83) (L' := [(0, .ref 92), (1, .int x0_1), (2, .int x0_2), (3, .int x0_3)]) (S' := fun z => [.int z, .int x0_3]) (h' := fun z => h) rfl rfl rfl).trans (ob_cg fun x1 => ?_)
  refine (is_ge (t := 138) rfl rfl rfl).trans (if_cg ?_ ?_)
  · refine (es_st 1 (pc' := 45) (L' := [(0, .ref 92), (1, .int x0_1), (2, .int x0_2), (3, .int x0_3)]) (S' := []) (h' := h) rfl).trans ?_
    exact es_cut rfl rfl rfl
  · refine (es_st 3 (pc' := 91) (L' := [(0, .ref 92), (1, .int x0_1), (2, .int x0_2), (3, .int x0_3)]) (S' := [.int x0_3, .ref 123]) (h' := h) rfl).trans ?_
    refine (es_ob (o := rAt h 123 x0_3) (pc' := 94) (L' := [(0, .ref 92), (1, .int x0_1), (2, .int x0_2), (3, .int x0_3)]) (S' := fun z => [.int z]) (h' := fun z => h) rfl rfl rfl).trans (ob_cg fun x2 => ?_)
    refine (es_st 3 (pc' := 99) (L' := [(4, .int x2), (0, .ref 92), (1, .int x0_1), (2, .int x0_2), (3, .int x0_3)]) (S' := [.int x0_1, .int x2]) (h' := h) rfl).trans ?_
    refine (is_ne (t := 104) rfl rfl rfl).trans (if_cg ?_ ?_)
    · refine (es_st 1 (pc' := 103) (L' := [(4, .int x2), (0, .ref 92), (1, .int x0_1), (2, .int x0_2), (3, .int x0_3)]) (S' := [.int (1 : Int32)]) (h' := h) rfl).trans ?_
      exact es_fin rfl rfl rfl
    · refine (es_st 3 (pc' := 110) (L' := [(4, .int x2), (0, .ref 92), (1, .int x0_1), (2, .int x0_2), (3, .int x0_3)]) (S' := [.int x2, .ref 137]) (h' := h) rfl).trans ?_
      refine (es_ix (c := ixN x2 1024 = true) (x := (sF h 137 x2.toNatClampNeg)) (pc' := 111) (L' := [(4, .int x2), (0, .ref 92), (1, .int x0_1), (2, .int x0_2), (3, .int x0_3)]) (S' := fun z => [.int z]) (h' := fun z => h) rfl rfl rfl).trans (if_cgn ?_)
      refine (zs_ne (t := 132) rfl rfl rfl).trans (if_cg ?_ ?_)
      · refine (es_st 4 (pc' := 121) (L' := [(4, .int x2), (0, .ref 92), (1, .int x0_1), (2, .int x0_2), (3, .int x0_3)]) (S' := [.int (1 : Int32), .int x2, .ref 137]) (h' := h) rfl).trans ?_
        refine (es_ix (c := ixN x2 1024 = true) (x := (uF h 137 x2.toNatClampNeg (1 : Int32))) (pc' := 122) (L' := [(4, .int x2), (0, .ref 92), (1, .int x0_1), (2, .int x0_2), (3, .int x0_3)]) (S' := fun z => []) (h' := fun z => z) rfl rfl rfl).trans (if_cgn ?_)
        refine (es_st 3 (pc' := 128) (L' := [(4, .int x2), (0, .ref 92), (1, .int x0_1), (2, .int x0_2), (3, .int x0_3)]) (S' := [.int x2, .ref 138]) (h' := (uF h 137 x2.toNatClampNeg (1 : Int32))) rfl).trans ?_
        refine (es_ob (o := rAdd (uF h 137 x2.toNatClampNeg (1 : Int32)) 138 x2) (pc' := 131) (L' := [(4, .int x2), (0, .ref 92), (1, .int x0_1), (2, .int x0_2), (3, .int x0_3)]) (S' := fun z => [.int z.1]) (h' := fun z => z.2) rfl rfl rfl).trans (ob_cg fun q3 => ?_)
        refine (es_st 3 (pc' := 72) (L' := [(3, .int (x0_3 + (1 : Int32))), (4, .int x2), (0, .ref 92), (1, .int x0_1), (2, .int x0_2)]) (S' := []) (h' := q3.2) rfl).trans ?_
        exact es_cut rfl rfl rfl
      · refine (es_st 2 (pc' := 72) (L' := [(3, .int (x0_3 + (1 : Int32))), (4, .int x2), (0, .ref 92), (1, .int x0_1), (2, .int x0_2)]) (S' := []) (h' := h) rfl).trans ?_
        exact es_cut rfl rfl rfl
theorem sX5_leaves_0 (B : Bool) (d : Nat) (hd : 4 ≤ d) (h : SG) : mS B d 114 [.ref 92] h = kV (mS B (d - 1) 145 [.ref 107] h) (fun h1 => ob (pSz h1 129 (0 : Int32)) (fun h2 => ob (pSz h2 131 (0 : Int32)) (fun h3 => evS B d 114 30 [(0, .ref 92), (1, .int (0 : Int32))] [] (uF h3 92 13 (0 : Int32))))) := by
  obtain ⟨d, rfl⟩ : ∃ e, d = e + 4 := ⟨d - 4, by omega⟩
  show evS B (d + 4) 114 0 [(0, .ref 92)] [] h = _
  refine (es_st 2 (pc' := 4) (L' := [(0, .ref 92)]) (S' := [.ref 107]) (h' := h) rfl).trans ?_
  refine (es_cV (b := true) (k' := 145) (pc' := 7) (as := [.ref 107]) (S' := []) (L' := [(0, .ref 92)]) (h' := h) rfl rfl rfl rfl rfl).trans (kV_cg fun h1 => ?_)
  refine (es_st 3 (pc' := 12) (L' := [(0, .ref 92)]) (S' := [.int (0 : Int32), .ref 129]) (h' := h1) rfl).trans ?_
  refine (es_ob (o := pSz h1 129 (0 : Int32)) (pc' := 15) (L' := [(0, .ref 92)]) (S' := fun z => []) (h' := fun z => z) rfl rfl rfl).trans (ob_cg fun h2 => ?_)
  refine (es_st 3 (pc' := 20) (L' := [(0, .ref 92)]) (S' := [.int (0 : Int32), .ref 131]) (h' := h2) rfl).trans ?_
  refine (es_ob (o := pSz h2 131 (0 : Int32)) (pc' := 23) (L' := [(0, .ref 92)]) (S' := fun z => []) (h' := fun z => z) rfl rfl rfl).trans (ob_cg fun h3 => ?_)
  refine (es_st 5 (pc' := 30) (L' := [(1, .int (0 : Int32)), (0, .ref 92)]) (S' := []) (h' := (uF h3 92 13 (0 : Int32))) rfl).trans ?_
  exact es_cut rfl rfl rfl
theorem sX5_leaves_30 (B : Bool) (d : Nat) (hd : 4 ≤ d) (h : SG) (x0_1 : Int32) : evS B d 114 30 [(0, .ref 92), (1, .int x0_1)] [] h = if ((Int32.ofNat (sW h 119).length) / (3 : Int32)) ≤ x0_1 then some (.inl none, h) else kI (mS B (d - 1) 106 [.ref 92, .int x0_1] h) (fun x2 h1 => if x2 = 0 then kI (mS B (d - 1) 112 [.ref 92, .int x0_1] h1) (fun x4 h3 => if x4 = 0 then evS B d 114 30 [(0, .ref 92), (1, .int (x0_1 + (1 : Int32)))] [] h3 else evS B d 114 62 [(0, .ref 92), (1, .int x0_1)] [] h3) else evS B d 114 62 [(0, .ref 92), (1, .int x0_1)] [] h1) := by
  obtain ⟨d, rfl⟩ : ∃ e, d = e + 4 := ⟨d - 4, by omega⟩
  refine (es_st 6 (pc' := 40) (L' := [(0, .ref 92), (1, .int x0_1)]) (S' := [.int ((Int32.ofNat (sW h 119).length) / (3 : Int32)), .int x0_1]) (h' := h) rfl).trans ?_
  refine (is_ge (t := 217) rfl rfl rfl).trans (if_cg ?_ ?_)
  · exact es_fin rfl rfl rfl
  · refine (es_st 2 (pc' := 45) (L' := [(0, .ref 92), (1, .int x0_1)]) (S' := [.int x0_1, .ref 92]) (h' := h) rfl).trans ?_
    refine (es_cI (b := true) (k' := 106) (pc' := 48) (as := [.ref 92, .int x0_1]) (S' := []) (L' := [(0, .ref 92), (1, .int x0_1)]) (h' := h) rfl rfl rfl rfl rfl).trans (kI_cg fun x2 h1 => ?_)
    refine (zs_ne (t := 62) rfl rfl rfl).trans (if_cg ?_ ?_)
    · refine (es_st 2 (pc' := 53) (L' := [(0, .ref 92), (1, .int x0_1)]) (S' := [.int x0_1, .ref 92]) (h' := h1) rfl).trans ?_
      refine (es_cI (b := true) (k' := 112) (pc' := 56) (as := [.ref 92, .int x0_1]) (S' := []) (L' := [(0, .ref 92), (1, .int x0_1)]) (h' := h1) rfl rfl rfl rfl rfl).trans (kI_cg fun x4 h3 => ?_)
      refine (zs_ne (t := 62) rfl rfl rfl).trans (if_cg ?_ ?_)
      · refine (es_st 3 (pc' := 30) (L' := [(1, .int (x0_1 + (1 : Int32))), (0, .ref 92)]) (S' := []) (h' := h3) rfl).trans ?_
        exact es_cut rfl rfl rfl
      · exact es_cut rfl rfl rfl
    · exact es_cut rfl rfl rfl
theorem sX5_leaves_62 (B : Bool) (d : Nat) (hd : 4 ≤ d) (h : SG) (x0_1 : Int32) : evS B d 114 62 [(0, .ref 92), (1, .int x0_1)] [] h = kI (mS B (d - 1) 105 [.ref 92, .int x0_1] h) (fun x2 h1 => kI (mS B (d - 1) 136 [.ref 93, .int x2, .int (4 : Int32)] h1) (fun x4 h3 => kI (mS B (d - 1) 105 [.ref 92, .int x0_1] h3) (fun x6 h5 => kI (mS B (d - 1) 136 [.ref 93, .int x6, .int (5 : Int32)] h5) (fun x8 h7 => evS B d 114 102 [(0, .ref 92), (1, .int x0_1), (2, .long ((x4.toInt64 &&& (4294967295 : Int64)) ||| (x8.toInt64 <<< ((32 : Int32).toInt64 &&& 63)))), (4, .int (0 : Int32))] [] h7)))) := by
  obtain ⟨d, rfl⟩ : ∃ e, d = e + 4 := ⟨d - 4, by omega⟩
  refine (es_st 4 (pc' := 68) (L' := [(0, .ref 92), (1, .int x0_1)]) (S' := [.int x0_1, .ref 92, .ref 93]) (h' := h) rfl).trans ?_
  refine (es_cI (b := true) (k' := 105) (pc' := 71) (as := [.ref 92, .int x0_1]) (S' := [.ref 93]) (L' := [(0, .ref 92), (1, .int x0_1)]) (h' := h) rfl rfl rfl rfl rfl).trans (kI_cg fun x2 h1 => ?_)
  refine (es_st 1 (pc' := 72) (L' := [(0, .ref 92), (1, .int x0_1)]) (S' := [.int (4 : Int32), .int x2, .ref 93]) (h' := h1) rfl).trans ?_
  refine (es_cI (b := true) (k' := 136) (pc' := 75) (as := [.ref 93, .int x2, .int (4 : Int32)]) (S' := []) (L' := [(0, .ref 92), (1, .int x0_1)]) (h' := h1) rfl rfl rfl rfl rfl).trans (kI_cg fun x4 h3 => ?_)
  refine (es_st 7 (pc' := 86) (L' := [(0, .ref 92), (1, .int x0_1)]) (S' := [.int x0_1, .ref 92, .ref 93, .long (x4.toInt64 &&& (4294967295 : Int64))]) (h' := h3) rfl).trans ?_
  refine (es_cI (b := true) (k' := 105) (pc' := 89) (as := [.ref 92, .int x0_1]) (S' := [.ref 93, .long (x4.toInt64 &&& (4294967295 : Int64))]) (L' := [(0, .ref 92), (1, .int x0_1)]) (h' := h3) rfl rfl rfl rfl rfl).trans (kI_cg fun x6 h5 => ?_)
  refine (es_st 1 (pc' := 90) (L' := [(0, .ref 92), (1, .int x0_1)]) (S' := [.int (5 : Int32), .int x6, .ref 93, .long (x4.toInt64 &&& (4294967295 : Int64))]) (h' := h5) rfl).trans ?_
  refine (es_cI (b := true) (k' := 136) (pc' := 93) (as := [.ref 93, .int x6, .int (5 : Int32)]) (S' := [.long (x4.toInt64 &&& (4294967295 : Int64))]) (L' := [(0, .ref 92), (1, .int x0_1)]) (h' := h5) rfl rfl rfl rfl rfl).trans (kI_cg fun x8 h7 => ?_)
  refine (es_st 7 (pc' := 102) (L' := [(4, .int (0 : Int32)), (2, .long ((x4.toInt64 &&& (4294967295 : Int64)) ||| (x8.toInt64 <<< ((32 : Int32).toInt64 &&& 63)))), (0, .ref 92), (1, .int x0_1)]) (S' := []) (h' := h7) rfl).trans ?_
  exact es_cut rfl rfl rfl
theorem sX5_leaves_102 (B : Bool) (d : Nat) (hd : 4 ≤ d) (h : SG) (x0_1 : Int32) (y0_2 : Int64) (x0_4 : Int32) : evS B d 114 102 [(0, .ref 92), (1, .int x0_1), (2, .long y0_2), (4, .int x0_4)] [] h = kI (mS B (d - 1) 115 [.ref 92, .int x0_1] h) (fun x2 h1 => if x2 ≤ x0_4 then evS B d 114 30 [(0, .ref 92), (1, .int (x0_1 + (1 : Int32)))] [] h1 else kI (mS B (d - 1) 146 [.ref 107] h1) (fun x4 h3 => kI (mS B (d - 1) 116 [.ref 92, .int x0_1] h3) (fun x6 h5 => ob (rSet h5 121 (x6 + x0_4) x4) (fun h7 => kI (mS B (d - 1) 112 [.ref 92, .int x0_1] h7) (fun x9 h8 => if x9 = 0 then evS B d 114 170 [(0, .ref 92), (1, .int x0_1), (2, .long y0_2), (4, .int x0_4), (5, .int x4)] [] h8 else evS B d 114 170 [(0, .ref 92), (1, .int x0_1), (2, .long y0_2), (4, .int x0_4), (5, .int x4)] [] (uF h8 92 13 ((sF h8 92 13) ||| (((lus y0_2 x0_4) &&& (1 : Int64)).toInt32 <<< ((Int32.ofNat (sW h8 131).length) &&& 31))))))))) := by
  obtain ⟨d, rfl⟩ : ∃ e, d = e + 4 := ⟨d - 4, by omega⟩
  refine (es_st 3 (pc' := 106) (L' := [(0, .ref 92), (1, .int x0_1), (2, .long y0_2), (4, .int x0_4)]) (S' := [.int x0_1, .ref 92, .int x0_4]) (h' := h) rfl).trans ?_
  refine (es_cI (b := true) (k' := 115) (pc' := 109) (as := [.ref 92, .int x0_1]) (S' := [.int x0_4]) (L' := [(0, .ref 92), (1, .int x0_1), (2, .long y0_2), (4, .int x0_4)]) (h' := h) rfl rfl rfl rfl rfl).trans (kI_cg fun x2 h1 => ?_)
  refine (is_ge (t := 211) rfl rfl rfl).trans (if_cg ?_ ?_)
  · refine (es_st 2 (pc' := 30) (L' := [(1, .int (x0_1 + (1 : Int32))), (0, .ref 92), (2, .long y0_2), (4, .int x0_4)]) (S' := []) (h' := h1) rfl).trans ?_
    exact es_cut rfl rfl rfl
  · refine (es_st 2 (pc' := 116) (L' := [(0, .ref 92), (1, .int x0_1), (2, .long y0_2), (4, .int x0_4)]) (S' := [.ref 107]) (h' := h1) rfl).trans ?_
    refine (es_cI (b := true) (k' := 146) (pc' := 119) (as := [.ref 107]) (S' := []) (L' := [(0, .ref 92), (1, .int x0_1), (2, .long y0_2), (4, .int x0_4)]) (h' := h1) rfl rfl rfl rfl rfl).trans (kI_cg fun x4 h3 => ?_)
    refine (es_st 5 (pc' := 127) (L' := [(5, .int x4), (0, .ref 92), (1, .int x0_1), (2, .long y0_2), (4, .int x0_4)]) (S' := [.int x0_1, .ref 92, .ref 121]) (h' := h3) rfl).trans ?_
    refine (es_cI (b := true) (k' := 116) (pc' := 130) (as := [.ref 92, .int x0_1]) (S' := [.ref 121]) (L' := [(5, .int x4), (0, .ref 92), (1, .int x0_1), (2, .long y0_2), (4, .int x0_4)]) (h' := h3) rfl rfl rfl rfl rfl).trans (kI_cg fun x6 h5 => ?_)
    refine (es_st 3 (pc' := 135) (L' := [(5, .int x4), (0, .ref 92), (1, .int x0_1), (2, .long y0_2), (4, .int x0_4)]) (S' := [.int x4, .int (x6 + x0_4), .ref 121]) (h' := h5) rfl).trans ?_
    refine (es_ob (o := rSet h5 121 (x6 + x0_4) x4) (pc' := 138) (L' := [(5, .int x4), (0, .ref 92), (1, .int x0_1), (2, .long y0_2), (4, .int x0_4)]) (S' := fun z => []) (h' := fun z => z) rfl rfl rfl).trans (ob_cg fun h7 => ?_)
    refine (es_st 2 (pc' := 140) (L' := [(5, .int x4), (0, .ref 92), (1, .int x0_1), (2, .long y0_2), (4, .int x0_4)]) (S' := [.int x0_1, .ref 92]) (h' := h7) rfl).trans ?_
    refine (es_cI (b := true) (k' := 112) (pc' := 143) (as := [.ref 92, .int x0_1]) (S' := []) (L' := [(5, .int x4), (0, .ref 92), (1, .int x0_1), (2, .long y0_2), (4, .int x0_4)]) (h' := h7) rfl rfl rfl rfl rfl).trans (kI_cg fun x9 h8 => ?_)
    refine (zs_eq (t := 170) rfl rfl rfl).trans (if_cg ?_ ?_)
    · exact es_cut rfl rfl rfl
    · refine (es_st 15 (pc' := 170) (L' := [(5, .int x4), (0, .ref 92), (1, .int x0_1), (2, .long y0_2), (4, .int x0_4)]) (S' := []) (h' := (uF h8 92 13 ((sF h8 92 13) ||| (((lus y0_2 x0_4) &&& (1 : Int64)).toInt32 <<< ((Int32.ofNat (sW h8 131).length) &&& 31))))) rfl).trans ?_
      exact es_cut rfl rfl rfl
theorem sX5_leaves_170 (B : Bool) (d : Nat) (hd : 4 ≤ d) (h : SG) (x0_1 : Int32) (y0_2 : Int64) (x0_4 : Int32) (x0_5 : Int32) : evS B d 114 170 [(0, .ref 92), (1, .int x0_1), (2, .long y0_2), (4, .int x0_4), (5, .int x0_5)] [] h = kI (mS B (d - 1) 112 [.ref 92, .int x0_1] h) (fun x2 h1 => if x2 = 0 then ob (rAdd h1 129 (x0_5 / (2 : Int32))) (fun q3 => evS B d 114 102 [(0, .ref 92), (1, .int x0_1), (2, .long y0_2), (4, .int (x0_4 + (1 : Int32)))] [] q3.2) else ob (rAdd h1 131 (x0_5 / (2 : Int32))) (fun q4 => evS B d 114 102 [(0, .ref 92), (1, .int x0_1), (2, .long y0_2), (4, .int (x0_4 + (1 : Int32)))] [] q4.2)) := by
  obtain ⟨d, rfl⟩ : ∃ e, d = e + 4 := ⟨d - 4, by omega⟩
  refine (es_st 2 (pc' := 172) (L' := [(0, .ref 92), (1, .int x0_1), (2, .long y0_2), (4, .int x0_4), (5, .int x0_5)]) (S' := [.int x0_1, .ref 92]) (h' := h) rfl).trans ?_
  refine (es_cI (b := true) (k' := 112) (pc' := 175) (as := [.ref 92, .int x0_1]) (S' := []) (L' := [(0, .ref 92), (1, .int x0_1), (2, .long y0_2), (4, .int x0_4), (5, .int x0_5)]) (h' := h) rfl rfl rfl rfl rfl).trans (kI_cg fun x2 h1 => ?_)
  refine (zs_eq (t := 193) rfl rfl rfl).trans (if_cg ?_ ?_)
  · refine (es_st 5 (pc' := 201) (L' := [(0, .ref 92), (1, .int x0_1), (2, .long y0_2), (4, .int x0_4), (5, .int x0_5)]) (S' := [.int (x0_5 / (2 : Int32)), .ref 129]) (h' := h1) rfl).trans ?_
    refine (es_ob (o := rAdd h1 129 (x0_5 / (2 : Int32))) (pc' := 204) (L' := [(0, .ref 92), (1, .int x0_1), (2, .long y0_2), (4, .int x0_4), (5, .int x0_5)]) (S' := fun z => [.int z.1]) (h' := fun z => z.2) rfl rfl rfl).trans (ob_cg fun q3 => ?_)
    refine (es_st 3 (pc' := 102) (L' := [(4, .int (x0_4 + (1 : Int32))), (0, .ref 92), (1, .int x0_1), (2, .long y0_2), (5, .int x0_5)]) (S' := []) (h' := q3.2) rfl).trans ?_
    exact es_cut rfl rfl rfl
  · refine (es_st 5 (pc' := 186) (L' := [(0, .ref 92), (1, .int x0_1), (2, .long y0_2), (4, .int x0_4), (5, .int x0_5)]) (S' := [.int (x0_5 / (2 : Int32)), .ref 131]) (h' := h1) rfl).trans ?_
    refine (es_ob (o := rAdd h1 131 (x0_5 / (2 : Int32))) (pc' := 189) (L' := [(0, .ref 92), (1, .int x0_1), (2, .long y0_2), (4, .int x0_4), (5, .int x0_5)]) (S' := fun z => [.int z.1]) (h' := fun z => z.2) rfl rfl rfl).trans (ob_cg fun q4 => ?_)
    refine (es_st 4 (pc' := 102) (L' := [(4, .int (x0_4 + (1 : Int32))), (0, .ref 92), (1, .int x0_1), (2, .long y0_2), (5, .int x0_5)]) (S' := []) (h' := q4.2) rfl).trans ?_
    exact es_cut rfl rfl rfl
theorem sX5_widthA_0 (B : Bool) (d : Nat) (hd : 1 ≤ d) (h : SG) (x0_1 : Int32) : mS B d 115 [.ref 40, .int x0_1] h = kI (mS B (d - 1) 105 [.ref 40, .int x0_1] h) (fun x2 h1 => kI (mS B (d - 1) 137 [.ref 41, .int x2] h1) (fun x4 h3 => some (.inl (some (.int x4)), h3))) := by
  obtain ⟨d, rfl⟩ : ∃ e, d = e + 1 := ⟨d - 1, by omega⟩
  show evS B (d + 1) 115 0 [(0, .ref 40), (1, .int x0_1)] [] h = _
  refine (es_st 4 (pc' := 6) (L' := [(0, .ref 40), (1, .int x0_1)]) (S' := [.int x0_1, .ref 40, .ref 41]) (h' := h) rfl).trans ?_
  refine (es_cI (b := true) (k' := 105) (pc' := 9) (as := [.ref 40, .int x0_1]) (S' := [.ref 41]) (L' := [(0, .ref 40), (1, .int x0_1)]) (h' := h) rfl rfl rfl rfl rfl).trans (kI_cg fun x2 h1 => ?_)
  refine (es_cI (b := true) (k' := 137) (pc' := 12) (as := [.ref 41, .int x2]) (S' := []) (L' := [(0, .ref 40), (1, .int x0_1)]) (h' := h1) rfl rfl rfl rfl rfl).trans (kI_cg fun x4 h3 => ?_)
  exact es_fin rfl rfl rfl
theorem sX5_width_0 (B : Bool) (d : Nat) (hd : 1 ≤ d) (h : SG) (x0_1 : Int32) : mS B d 115 [.ref 92, .int x0_1] h = kI (mS B (d - 1) 105 [.ref 92, .int x0_1] h) (fun x2 h1 => kI (mS B (d - 1) 137 [.ref 93, .int x2] h1) (fun x4 h3 => some (.inl (some (.int x4)), h3))) := by
  obtain ⟨d, rfl⟩ : ∃ e, d = e + 1 := ⟨d - 1, by omega⟩
  show evS B (d + 1) 115 0 [(0, .ref 92), (1, .int x0_1)] [] h = _
  refine (es_st 4 (pc' := 6) (L' := [(0, .ref 92), (1, .int x0_1)]) (S' := [.int x0_1, .ref 92, .ref 93]) (h' := h) rfl).trans ?_
  refine (es_cI (b := true) (k' := 105) (pc' := 9) (as := [.ref 92, .int x0_1]) (S' := [.ref 93]) (L' := [(0, .ref 92), (1, .int x0_1)]) (h' := h) rfl rfl rfl rfl rfl).trans (kI_cg fun x2 h1 => ?_)
  refine (es_cI (b := true) (k' := 137) (pc' := 12) (as := [.ref 93, .int x2]) (S' := []) (L' := [(0, .ref 92), (1, .int x0_1)]) (h' := h1) rfl rfl rfl rfl rfl).trans (kI_cg fun x4 h3 => ?_)
  exact es_fin rfl rfl rfl
theorem sX5_firstA_0 (B : Bool) (d : Nat) (hd : 4 ≤ d) (h : SG) (x0_1 : Int32) : mS B d 116 [.ref 40, .int x0_1] h = ob (rAt h 67 (((3 : Int32) * x0_1) + (2 : Int32))) (fun x1 => some (.inl (some (.int x1)), h)) := by
  obtain ⟨d, rfl⟩ : ∃ e, d = e + 4 := ⟨d - 4, by omega⟩
  show evS B (d + 4) 116 0 [(0, .ref 40), (1, .int x0_1)] [] h = _
  refine (es_st 7 (pc' := 9) (L' := [(0, .ref 40), (1, .int x0_1)]) (S' := [.int (((3 : Int32) * x0_1) + (2 : Int32)), .ref 67]) (h' := h) rfl).trans ?_
  refine (es_ob (o := rAt h 67 (((3 : Int32) * x0_1) + (2 : Int32))) (pc' := 12) (L' := [(0, .ref 40), (1, .int x0_1)]) (S' := fun z => [.int z]) (h' := fun z => h) rfl rfl rfl).trans (ob_cg fun x1 => ?_)
  exact es_fin rfl rfl rfl
theorem sX5_first_0 (B : Bool) (d : Nat) (hd : 4 ≤ d) (h : SG) (x0_1 : Int32) : mS B d 116 [.ref 92, .int x0_1] h = ob (rAt h 119 (((3 : Int32) * x0_1) + (2 : Int32))) (fun x1 => some (.inl (some (.int x1)), h)) := by
  obtain ⟨d, rfl⟩ : ∃ e, d = e + 4 := ⟨d - 4, by omega⟩
  show evS B (d + 4) 116 0 [(0, .ref 92), (1, .int x0_1)] [] h = _
  refine (es_st 7 (pc' := 9) (L' := [(0, .ref 92), (1, .int x0_1)]) (S' := [.int (((3 : Int32) * x0_1) + (2 : Int32)), .ref 119]) (h' := h) rfl).trans ?_
  refine (es_ob (o := rAt h 119 (((3 : Int32) * x0_1) + (2 : Int32))) (pc' := 12) (L' := [(0, .ref 92), (1, .int x0_1)]) (S' := fun z => [.int z]) (h' := fun z => h) rfl rfl rfl).trans (ob_cg fun x1 => ?_)
  exact es_fin rfl rfl rfl
theorem sX5_signals_0 (B : Bool) (d : Nat) (hd : 4 ≤ d) (h : SG) : mS B d 117 [.ref 92] h = evS B d 117 2 [(0, .ref 92), (1, .int (0 : Int32))] [] h := by
  obtain ⟨d, rfl⟩ : ∃ e, d = e + 4 := ⟨d - 4, by omega⟩
  show evS B (d + 4) 117 0 [(0, .ref 92)] [] h = _
  refine (es_st 2 (pc' := 2) (L' := [(1, .int (0 : Int32)), (0, .ref 92)]) (S' := []) (h' := h) rfl).trans ?_
  exact es_cut rfl rfl rfl
theorem sX5_signals_2 (B : Bool) (d : Nat) (hd : 4 ≤ d) (h : SG) (x0_1 : Int32) : evS B d 117 2 [(0, .ref 92), (1, .int x0_1)] [] h = if ((Int32.ofNat (sW h 119).length) / (3 : Int32)) ≤ x0_1 then evS B d 117 30 [(0, .ref 92), (1, .int (0 : Int32))] [] h else if ixN x0_1 1024 = true then evS B d 117 2 [(0, .ref 92), (1, .int (x0_1 + (1 : Int32)))] [] (uF h 137 x0_1.toNatClampNeg (0 : Int32)) else none := by
  obtain ⟨d, rfl⟩ : ∃ e, d = e + 4 := ⟨d - 4, by omega⟩
  refine (es_st 6 (pc' := 12) (L' := [(0, .ref 92), (1, .int x0_1)]) (S' := [.int ((Int32.ofNat (sW h 119).length) / (3 : Int32)), .int x0_1]) (h' := h) rfl).trans ?_
  refine (is_ge (t := 28) rfl rfl rfl).trans (if_cg ?_ ?_)
  · refine (es_st 2 (pc' := 30) (L' := [(1, .int (0 : Int32)), (0, .ref 92)]) (S' := []) (h' := h) rfl).trans ?_
    exact es_cut rfl rfl rfl
  · refine (es_st 4 (pc' := 21) (L' := [(0, .ref 92), (1, .int x0_1)]) (S' := [.int (0 : Int32), .int x0_1, .ref 137]) (h' := h) rfl).trans ?_
    refine (es_ix (c := ixN x0_1 1024 = true) (x := (uF h 137 x0_1.toNatClampNeg (0 : Int32))) (pc' := 22) (L' := [(0, .ref 92), (1, .int x0_1)]) (S' := fun z => []) (h' := fun z => z) rfl rfl rfl).trans (if_cgn ?_)
    refine (es_st 2 (pc' := 2) (L' := [(1, .int (x0_1 + (1 : Int32))), (0, .ref 92)]) (S' := []) (h' := (uF h 137 x0_1.toNatClampNeg (0 : Int32))) rfl).trans ?_
    exact es_cut rfl rfl rfl
theorem sX5_signals_30 (B : Bool) (d : Nat) (hd : 4 ≤ d) (h : SG) (x0_1 : Int32) : evS B d 117 30 [(0, .ref 92), (1, .int x0_1)] [] h = if ((Int32.ofNat (sW h 119).length) / (3 : Int32)) ≤ x0_1 then some (.inl none, h) else ob (pSz h 140 (0 : Int32)) (fun h1 => ob (rAdd h1 140 x0_1) (fun q2 => evS B d 117 60 [(0, .ref 92), (1, .int x0_1)] [] q2.2)) := by
  obtain ⟨d, rfl⟩ : ∃ e, d = e + 4 := ⟨d - 4, by omega⟩
  refine (es_st 6 (pc' := 40) (L' := [(0, .ref 92), (1, .int x0_1)]) (S' := [.int ((Int32.ofNat (sW h 119).length) / (3 : Int32)), .int x0_1]) (h' := h) rfl).trans ?_
  refine (is_ge (t := 202) rfl rfl rfl).trans (if_cg ?_ ?_)
  · exact es_fin rfl rfl rfl
  · refine (es_st 3 (pc' := 48) (L' := [(0, .ref 92), (1, .int x0_1)]) (S' := [.int (0 : Int32), .ref 140]) (h' := h) rfl).trans ?_
    refine (es_ob (o := pSz h 140 (0 : Int32)) (pc' := 51) (L' := [(0, .ref 92), (1, .int x0_1)]) (S' := fun z => []) (h' := fun z => z) rfl rfl rfl).trans (ob_cg fun h1 => ?_)
    refine (es_st 3 (pc' := 56) (L' := [(0, .ref 92), (1, .int x0_1)]) (S' := [.int x0_1, .ref 140]) (h' := h1) rfl).trans ?_
    refine (es_ob (o := rAdd h1 140 x0_1) (pc' := 59) (L' := [(0, .ref 92), (1, .int x0_1)]) (S' := fun z => [.int z.1]) (h' := fun z => z.2) rfl rfl rfl).trans (ob_cg fun q2 => ?_)
    refine (es_st 1 (pc' := 60) (L' := [(0, .ref 92), (1, .int x0_1)]) (S' := []) (h' := q2.2) rfl).trans ?_
    exact es_cut rfl rfl rfl
theorem sX5_signals_60 (B : Bool) (d : Nat) (hd : 4 ≤ d) (h : SG) (x0_1 : Int32) : evS B d 117 60 [(0, .ref 92), (1, .int x0_1)] [] h = if (Int32.ofNat (sW h 140).length) ≤ 0 then evS B d 117 30 [(0, .ref 92), (1, .int (x0_1 + (1 : Int32)))] [] h else ob (rTop h 140) (fun x1 => if ixN x1 1024 = true then if (sF h 137 x1.toNatClampNeg) = 0 then if ixN x1 1024 = true then ob (rAt (uF h 137 x1.toNatClampNeg (1 : Int32)) 125 x1) (fun x3 => evS B d 117 103 [(0, .ref 92), (1, .int x0_1), (2, .int x1), (3, .int x3)] [] (uF h 137 x1.toNatClampNeg (1 : Int32))) else none else if ixN x1 1024 = true then if (sF h 137 x1.toNatClampNeg) = (1 : Int32) then kV (mS B (d - 1) 118 [.ref 92, .int x1] h) (fun h2 => evS B d 117 173 [(0, .ref 92), (1, .int x0_1), (2, .int x1)] [] h2) else evS B d 117 173 [(0, .ref 92), (1, .int x0_1), (2, .int x1)] [] h else none else none) := by
  obtain ⟨d, rfl⟩ : ∃ e, d = e + 4 := ⟨d - 4, by omega⟩
  refine (es_st 3 (pc' := 67) (L' := [(0, .ref 92), (1, .int x0_1)]) (S' := [.int (Int32.ofNat (sW h 140).length)]) (h' := h) rfl).trans ?_
  refine (zs_le (t := 196) rfl rfl rfl).trans (if_cg ?_ ?_)
  · refine (es_st 2 (pc' := 30) (L' := [(1, .int (x0_1 + (1 : Int32))), (0, .ref 92)]) (S' := []) (h' := h) rfl).trans ?_
    exact es_cut rfl rfl rfl
  · refine (es_st 2 (pc' := 74) (L' := [(0, .ref 92), (1, .int x0_1)]) (S' := [.ref 140]) (h' := h) rfl).trans ?_
    refine (es_ob (o := rTop h 140) (pc' := 77) (L' := [(0, .ref 92), (1, .int x0_1)]) (S' := fun z => [.int z]) (h' := fun z => h) rfl rfl rfl).trans (ob_cg fun x1 => ?_)
    refine (es_st 4 (pc' := 83) (L' := [(2, .int x1), (0, .ref 92), (1, .int x0_1)]) (S' := [.int x1, .ref 137]) (h' := h) rfl).trans ?_
    refine (es_ix (c := ixN x1 1024 = true) (x := (sF h 137 x1.toNatClampNeg)) (pc' := 84) (L' := [(2, .int x1), (0, .ref 92), (1, .int x0_1)]) (S' := fun z => [.int z]) (h' := fun z => h) rfl rfl rfl).trans (if_cgn ?_)
    refine (zs_ne (t := 158) rfl rfl rfl).trans (if_cg ?_ ?_)
    · refine (es_st 4 (pc' := 93) (L' := [(2, .int x1), (0, .ref 92), (1, .int x0_1)]) (S' := [.int (1 : Int32), .int x1, .ref 137]) (h' := h) rfl).trans ?_
      refine (es_ix (c := ixN x1 1024 = true) (x := (uF h 137 x1.toNatClampNeg (1 : Int32))) (pc' := 94) (L' := [(2, .int x1), (0, .ref 92), (1, .int x0_1)]) (S' := fun z => []) (h' := fun z => z) rfl rfl rfl).trans (if_cgn ?_)
      refine (es_st 3 (pc' := 99) (L' := [(2, .int x1), (0, .ref 92), (1, .int x0_1)]) (S' := [.int x1, .ref 125]) (h' := (uF h 137 x1.toNatClampNeg (1 : Int32))) rfl).trans ?_
      refine (es_ob (o := rAt (uF h 137 x1.toNatClampNeg (1 : Int32)) 125 x1) (pc' := 102) (L' := [(2, .int x1), (0, .ref 92), (1, .int x0_1)]) (S' := fun z => [.int z]) (h' := fun z => (uF h 137 x1.toNatClampNeg (1 : Int32))) rfl rfl rfl).trans (ob_cg fun x3 => ?_)
      refine (es_st 1 (pc' := 103) (L' := [(3, .int x3), (2, .int x1), (0, .ref 92), (1, .int x0_1)]) (S' := []) (h' := (uF h 137 x1.toNatClampNeg (1 : Int32))) rfl).trans ?_
      exact es_cut rfl rfl rfl
    · refine (es_st 3 (pc' := 163) (L' := [(2, .int x1), (0, .ref 92), (1, .int x0_1)]) (S' := [.int x1, .ref 137]) (h' := h) rfl).trans ?_
      refine (es_ix (c := ixN x1 1024 = true) (x := (sF h 137 x1.toNatClampNeg)) (pc' := 164) (L' := [(2, .int x1), (0, .ref 92), (1, .int x0_1)]) (S' := fun z => [.int z]) (h' := fun z => h) rfl rfl rfl).trans (if_cgn ?_)
      refine (es_st 1 (pc' := 165) (L' := [(2, .int x1), (0, .ref 92), (1, .int x0_1)]) (S' := [.int (1 : Int32), .int (sF h 137 x1.toNatClampNeg)]) (h' := h) rfl).trans ?_
      refine (is_ne (t := 173) rfl rfl rfl).trans (if_cg ?_ ?_)
      · refine (es_st 2 (pc' := 170) (L' := [(2, .int x1), (0, .ref 92), (1, .int x0_1)]) (S' := [.int x1, .ref 92]) (h' := h) rfl).trans ?_
        refine (es_cV (b := true) (k' := 118) (pc' := 173) (as := [.ref 92, .int x1]) (S' := []) (L' := [(2, .int x1), (0, .ref 92), (1, .int x0_1)]) (h' := h) rfl rfl rfl rfl rfl).trans (kV_cg fun h2 => ?_)
        exact es_cut rfl rfl rfl
      · exact es_cut rfl rfl rfl
theorem sX5_signals_103 (B : Bool) (d : Nat) (hd : 4 ≤ d) (h : SG) (x0_1 : Int32) (x0_2 : Int32) (x0_3 : Int32) : evS B d 117 103 [(0, .ref 92), (1, .int x0_1), (2, .int x0_2), (3, .int x0_3)] [] h = ob (rAt h 125 (x0_2 + (1 : Int32))) (fun x1 => if x1 ≤ x0_3 then evS B d 117 60 [(0, .ref 92), (1, .int x0_1)] [] h else ob (rAt h 123 x0_3) (fun x2 => if ixN x2 1024 = true then if (sF h 137 x2.toNatClampNeg) = 0 then ob (rAt h 123 x0_3) (fun x3 => ob (rAdd h 140 x3) (fun q4 => evS B d 117 103 [(0, .ref 92), (1, .int x0_1), (2, .int x0_2), (3, .int (x0_3 + (1 : Int32)))] [] q4.2)) else evS B d 117 103 [(0, .ref 92), (1, .int x0_1), (2, .int x0_2), (3, .int (x0_3 + (1 : Int32)))] [] h else none)) := by
  obtain ⟨d, rfl⟩ : ∃ e, d = e + 4 := ⟨d - 4, by omega⟩
  refine (es_st 6 (pc' := 111) (L' := [(0, .ref 92), (1, .int x0_1), (2, .int x0_2), (3, .int x0_3)]) (S' := [.int (x0_2 + (1 : Int32)), .ref 125, .int x0_3]) (h' := h) rfl).trans ?_
  refine (es_ob (o := rAt h 125 (x0_2 + (1 : Int32))) (pc' := 114) (L' := [(0, .ref 92), (1, .int x0_1), (2, .int x0_2), (3, .int x0_3)]) (S' := fun z => [.int z, .int x0_3]) (h' := fun z => h) rfl rfl rfl).trans (ob_cg fun x1 => ?_)
  refine (is_ge (t := 155) rfl rfl rfl).trans (if_cg ?_ ?_)
  · refine (es_st 2 (pc' := 60) (L' := [(0, .ref 92), (1, .int x0_1), (2, .int x0_2), (3, .int x0_3)]) (S' := []) (h' := h) rfl).trans ?_
    exact es_cut rfl rfl rfl
  · refine (es_st 5 (pc' := 126) (L' := [(0, .ref 92), (1, .int x0_1), (2, .int x0_2), (3, .int x0_3)]) (S' := [.int x0_3, .ref 123, .ref 137]) (h' := h) rfl).trans ?_
    refine (es_ob (o := rAt h 123 x0_3) (pc' := 129) (L' := [(0, .ref 92), (1, .int x0_1), (2, .int x0_2), (3, .int x0_3)]) (S' := fun z => [.int z, .ref 137]) (h' := fun z => h) rfl rfl rfl).trans (ob_cg fun x2 => ?_)
    refine (es_ix (c := ixN x2 1024 = true) (x := (sF h 137 x2.toNatClampNeg)) (pc' := 130) (L' := [(0, .ref 92), (1, .int x0_1), (2, .int x0_2), (3, .int x0_3)]) (S' := fun z => [.int z]) (h' := fun z => h) rfl rfl rfl).trans (if_cgn ?_)
    refine (zs_ne (t := 149) rfl rfl rfl).trans (if_cg ?_ ?_)
    · refine (es_st 5 (pc' := 142) (L' := [(0, .ref 92), (1, .int x0_1), (2, .int x0_2), (3, .int x0_3)]) (S' := [.int x0_3, .ref 123, .ref 140]) (h' := h) rfl).trans ?_
      refine (es_ob (o := rAt h 123 x0_3) (pc' := 145) (L' := [(0, .ref 92), (1, .int x0_1), (2, .int x0_2), (3, .int x0_3)]) (S' := fun z => [.int z, .ref 140]) (h' := fun z => h) rfl rfl rfl).trans (ob_cg fun x3 => ?_)
      refine (es_ob (o := rAdd h 140 x3) (pc' := 148) (L' := [(0, .ref 92), (1, .int x0_1), (2, .int x0_2), (3, .int x0_3)]) (S' := fun z => [.int z.1]) (h' := fun z => z.2) rfl rfl rfl).trans (ob_cg fun q4 => ?_)
      refine (es_st 3 (pc' := 103) (L' := [(3, .int (x0_3 + (1 : Int32))), (0, .ref 92), (1, .int x0_1), (2, .int x0_2)]) (S' := []) (h' := q4.2) rfl).trans ?_
      exact es_cut rfl rfl rfl
    · refine (es_st 2 (pc' := 103) (L' := [(3, .int (x0_3 + (1 : Int32))), (0, .ref 92), (1, .int x0_1), (2, .int x0_2)]) (S' := []) (h' := h) rfl).trans ?_
      exact es_cut rfl rfl rfl
theorem sX5_signals_173 (B : Bool) (d : Nat) (hd : 4 ≤ d) (h : SG) (x0_1 : Int32) (x0_2 : Int32) : evS B d 117 173 [(0, .ref 92), (1, .int x0_1), (2, .int x0_2)] [] h = if ixN x0_2 1024 = true then ob (pSz (uF h 137 x0_2.toNatClampNeg (2 : Int32)) 140 ((Int32.ofNat (sW (uF h 137 x0_2.toNatClampNeg (2 : Int32)) 140).length) - (1 : Int32))) (fun h1 => evS B d 117 60 [(0, .ref 92), (1, .int x0_1)] [] h1) else none := by
  obtain ⟨d, rfl⟩ : ∃ e, d = e + 4 := ⟨d - 4, by omega⟩
  refine (es_st 4 (pc' := 179) (L' := [(0, .ref 92), (1, .int x0_1), (2, .int x0_2)]) (S' := [.int (2 : Int32), .int x0_2, .ref 137]) (h' := h) rfl).trans ?_
  refine (es_ix (c := ixN x0_2 1024 = true) (x := (uF h 137 x0_2.toNatClampNeg (2 : Int32))) (pc' := 180) (L' := [(0, .ref 92), (1, .int x0_1), (2, .int x0_2)]) (S' := fun z => []) (h' := fun z => z) rfl rfl rfl).trans (if_cgn ?_)
  refine (es_st 6 (pc' := 190) (L' := [(0, .ref 92), (1, .int x0_1), (2, .int x0_2)]) (S' := [.int ((Int32.ofNat (sW (uF h 137 x0_2.toNatClampNeg (2 : Int32)) 140).length) - (1 : Int32)), .ref 140]) (h' := (uF h 137 x0_2.toNatClampNeg (2 : Int32))) rfl).trans ?_
  refine (es_ob (o := pSz (uF h 137 x0_2.toNatClampNeg (2 : Int32)) 140 ((Int32.ofNat (sW (uF h 137 x0_2.toNatClampNeg (2 : Int32)) 140).length) - (1 : Int32))) (pc' := 193) (L' := [(0, .ref 92), (1, .int x0_1), (2, .int x0_2)]) (S' := fun z => []) (h' := fun z => z) rfl rfl rfl).trans (ob_cg fun h1 => ?_)
  refine (es_st 1 (pc' := 60) (L' := [(0, .ref 92), (1, .int x0_1), (2, .int x0_2)]) (S' := []) (h' := h1) rfl).trans ?_
  exact es_cut rfl rfl rfl
theorem sX5_lay_0 (B : Bool) (d : Nat) (hd : 4 ≤ d) (h : SG) (x0_1 : Int32) : mS B d 118 [.ref 92, .int x0_1] h = kV (mS B (d - 1) 104 [.ref 92, .int x0_1] h) (fun h1 => if (sF h1 92 21) = (-2 : Int32) then evS B d 118 16 [(0, .ref 92), (1, .int x0_1), (2, .int (0 : Int32))] [] h1 else if (sF h1 92 21) < 0 then some (.inl none, h1) else kV (mS B (d - 1) 154 [.ref 112] h1) (fun h2 => kV (mS B (d - 1) 119 [.ref 92, .int (sF h2 92 21), .int (sF h2 92 22), .int (sF h2 92 23)] h2) (fun h3 => evS B d 118 97 [(0, .ref 92), (1, .int x0_1), (2, .int (0 : Int32))] [] h3))) := by
  obtain ⟨d, rfl⟩ : ∃ e, d = e + 4 := ⟨d - 4, by omega⟩
  show evS B (d + 4) 118 0 [(0, .ref 92), (1, .int x0_1)] [] h = _
  refine (es_st 2 (pc' := 2) (L' := [(0, .ref 92), (1, .int x0_1)]) (S' := [.int x0_1, .ref 92]) (h' := h) rfl).trans ?_
  refine (es_cV (b := true) (k' := 104) (pc' := 5) (as := [.ref 92, .int x0_1]) (S' := []) (L' := [(0, .ref 92), (1, .int x0_1)]) (h' := h) rfl rfl rfl rfl rfl).trans (kV_cg fun h1 => ?_)
  refine (es_st 3 (pc' := 11) (L' := [(0, .ref 92), (1, .int x0_1)]) (S' := [.int (-2 : Int32), .int (sF h1 92 21)]) (h' := h1) rfl).trans ?_
  refine (is_ne (t := 65) rfl rfl rfl).trans (if_cg ?_ ?_)
  · refine (es_st 2 (pc' := 16) (L' := [(2, .int (0 : Int32)), (0, .ref 92), (1, .int x0_1)]) (S' := []) (h' := h1) rfl).trans ?_
    exact es_cut rfl rfl rfl
  · refine (es_st 2 (pc' := 69) (L' := [(0, .ref 92), (1, .int x0_1)]) (S' := [.int (sF h1 92 21)]) (h' := h1) rfl).trans ?_
    refine (zs_lt (t := 137) rfl rfl rfl).trans (if_cg ?_ ?_)
    · exact es_fin rfl rfl rfl
    · refine (es_st 2 (pc' := 76) (L' := [(0, .ref 92), (1, .int x0_1)]) (S' := [.ref 112]) (h' := h1) rfl).trans ?_
      refine (es_cV (b := true) (k' := 154) (pc' := 79) (as := [.ref 112]) (S' := []) (L' := [(0, .ref 92), (1, .int x0_1)]) (h' := h1) rfl rfl rfl rfl rfl).trans (kV_cg fun h2 => ?_)
      refine (es_st 7 (pc' := 92) (L' := [(0, .ref 92), (1, .int x0_1)]) (S' := [.int (sF h2 92 23), .int (sF h2 92 22), .int (sF h2 92 21), .ref 92]) (h' := h2) rfl).trans ?_
      refine (es_cV (b := true) (k' := 119) (pc' := 95) (as := [.ref 92, .int (sF h2 92 21), .int (sF h2 92 22), .int (sF h2 92 23)]) (S' := []) (L' := [(0, .ref 92), (1, .int x0_1)]) (h' := h2) rfl rfl rfl rfl rfl).trans (kV_cg fun h3 => ?_)
      refine (es_st 2 (pc' := 97) (L' := [(2, .int (0 : Int32)), (0, .ref 92), (1, .int x0_1)]) (S' := []) (h' := h3) rfl).trans ?_
      exact es_cut rfl rfl rfl
theorem sX5_lay_16 (B : Bool) (d : Nat) (hd : 4 ≤ d) (h : SG) (x0_1 : Int32) (x0_2 : Int32) : evS B d 118 16 [(0, .ref 92), (1, .int x0_1), (2, .int x0_2)] [] h = kI (mS B (d - 1) 115 [.ref 92, .int x0_1] h) (fun x2 h1 => if x2 ≤ x0_2 then some (.inl none, h1) else kI (mS B (d - 1) 116 [.ref 92, .int x0_1] h1) (fun x4 h3 => kI (mS B (d - 1) 116 [.ref 92, .int (sF h3 92 22)] h3) (fun x6 h5 => ob (rAt h5 121 (x6 + x0_2)) (fun x7 => ob (rSet h5 121 (x4 + x0_2) x7) (fun h8 => evS B d 118 16 [(0, .ref 92), (1, .int x0_1), (2, .int (x0_2 + (1 : Int32)))] [] h8))))) := by
  obtain ⟨d, rfl⟩ : ∃ e, d = e + 4 := ⟨d - 4, by omega⟩
  refine (es_st 3 (pc' := 19) (L' := [(0, .ref 92), (1, .int x0_1), (2, .int x0_2)]) (S' := [.int x0_1, .ref 92, .int x0_2]) (h' := h) rfl).trans ?_
  refine (es_cI (b := true) (k' := 115) (pc' := 22) (as := [.ref 92, .int x0_1]) (S' := [.int x0_2]) (L' := [(0, .ref 92), (1, .int x0_1), (2, .int x0_2)]) (h' := h) rfl rfl rfl rfl rfl).trans (kI_cg fun x2 h1 => ?_)
  refine (is_ge (t := 62) rfl rfl rfl).trans (if_cg ?_ ?_)
  · refine (es_st 1 (pc' := 137) (L' := [(0, .ref 92), (1, .int x0_1), (2, .int x0_2)]) (S' := []) (h' := h1) rfl).trans ?_
    exact es_fin rfl rfl rfl
  · refine (es_st 4 (pc' := 31) (L' := [(0, .ref 92), (1, .int x0_1), (2, .int x0_2)]) (S' := [.int x0_1, .ref 92, .ref 121]) (h' := h1) rfl).trans ?_
    refine (es_cI (b := true) (k' := 116) (pc' := 34) (as := [.ref 92, .int x0_1]) (S' := [.ref 121]) (L' := [(0, .ref 92), (1, .int x0_1), (2, .int x0_2)]) (h' := h1) rfl rfl rfl rfl rfl).trans (kI_cg fun x4 h3 => ?_)
    refine (es_st 7 (pc' := 45) (L' := [(0, .ref 92), (1, .int x0_1), (2, .int x0_2)]) (S' := [.int (sF h3 92 22), .ref 92, .ref 121, .int (x4 + x0_2), .ref 121]) (h' := h3) rfl).trans ?_
    refine (es_cI (b := true) (k' := 116) (pc' := 48) (as := [.ref 92, .int (sF h3 92 22)]) (S' := [.ref 121, .int (x4 + x0_2), .ref 121]) (L' := [(0, .ref 92), (1, .int x0_1), (2, .int x0_2)]) (h' := h3) rfl rfl rfl rfl rfl).trans (kI_cg fun x6 h5 => ?_)
    refine (es_st 2 (pc' := 50) (L' := [(0, .ref 92), (1, .int x0_1), (2, .int x0_2)]) (S' := [.int (x6 + x0_2), .ref 121, .int (x4 + x0_2), .ref 121]) (h' := h5) rfl).trans ?_
    refine (es_ob (o := rAt h5 121 (x6 + x0_2)) (pc' := 53) (L' := [(0, .ref 92), (1, .int x0_1), (2, .int x0_2)]) (S' := fun z => [.int z, .int (x4 + x0_2), .ref 121]) (h' := fun z => h5) rfl rfl rfl).trans (ob_cg fun x7 => ?_)
    refine (es_ob (o := rSet h5 121 (x4 + x0_2) x7) (pc' := 56) (L' := [(0, .ref 92), (1, .int x0_1), (2, .int x0_2)]) (S' := fun z => []) (h' := fun z => z) rfl rfl rfl).trans (ob_cg fun h8 => ?_)
    refine (es_st 2 (pc' := 16) (L' := [(2, .int (x0_2 + (1 : Int32))), (0, .ref 92), (1, .int x0_1)]) (S' := []) (h' := h8) rfl).trans ?_
    exact es_cut rfl rfl rfl
theorem sX5_lay_97 (B : Bool) (d : Nat) (hd : 4 ≤ d) (h : SG) (x0_1 : Int32) (x0_2 : Int32) : evS B d 118 97 [(0, .ref 92), (1, .int x0_1), (2, .int x0_2)] [] h = kI (mS B (d - 1) 115 [.ref 92, .int x0_1] h) (fun x2 h1 => if x2 ≤ x0_2 then some (.inl none, h1) else kI (mS B (d - 1) 116 [.ref 92, .int x0_1] h1) (fun x4 h3 => ob (rAt h3 113 x0_2) (fun x5 => ob (rSet h3 121 (x4 + x0_2) x5) (fun h6 => evS B d 118 97 [(0, .ref 92), (1, .int x0_1), (2, .int (x0_2 + (1 : Int32)))] [] h6)))) := by
  obtain ⟨d, rfl⟩ : ∃ e, d = e + 4 := ⟨d - 4, by omega⟩
  refine (es_st 3 (pc' := 100) (L' := [(0, .ref 92), (1, .int x0_1), (2, .int x0_2)]) (S' := [.int x0_1, .ref 92, .int x0_2]) (h' := h) rfl).trans ?_
  refine (es_cI (b := true) (k' := 115) (pc' := 103) (as := [.ref 92, .int x0_1]) (S' := [.int x0_2]) (L' := [(0, .ref 92), (1, .int x0_1), (2, .int x0_2)]) (h' := h) rfl rfl rfl rfl rfl).trans (kI_cg fun x2 h1 => ?_)
  refine (is_ge (t := 137) rfl rfl rfl).trans (if_cg ?_ ?_)
  · exact es_fin rfl rfl rfl
  · refine (es_st 4 (pc' := 112) (L' := [(0, .ref 92), (1, .int x0_1), (2, .int x0_2)]) (S' := [.int x0_1, .ref 92, .ref 121]) (h' := h1) rfl).trans ?_
    refine (es_cI (b := true) (k' := 116) (pc' := 115) (as := [.ref 92, .int x0_1]) (S' := [.ref 121]) (L' := [(0, .ref 92), (1, .int x0_1), (2, .int x0_2)]) (h' := h1) rfl rfl rfl rfl rfl).trans (kI_cg fun x4 h3 => ?_)
    refine (es_st 6 (pc' := 125) (L' := [(0, .ref 92), (1, .int x0_1), (2, .int x0_2)]) (S' := [.int x0_2, .ref 113, .int (x4 + x0_2), .ref 121]) (h' := h3) rfl).trans ?_
    refine (es_ob (o := rAt h3 113 x0_2) (pc' := 128) (L' := [(0, .ref 92), (1, .int x0_1), (2, .int x0_2)]) (S' := fun z => [.int z, .int (x4 + x0_2), .ref 121]) (h' := fun z => h3) rfl rfl rfl).trans (ob_cg fun x5 => ?_)
    refine (es_ob (o := rSet h3 121 (x4 + x0_2) x5) (pc' := 131) (L' := [(0, .ref 92), (1, .int x0_1), (2, .int x0_2)]) (S' := fun z => []) (h' := fun z => z) rfl rfl rfl).trans (ob_cg fun h6 => ?_)
    refine (es_st 2 (pc' := 97) (L' := [(2, .int (x0_2 + (1 : Int32))), (0, .ref 92), (1, .int x0_1)]) (S' := []) (h' := h6) rfl).trans ?_
    exact es_cut rfl rfl rfl
theorem sX5_work_0 (B : Bool) (d : Nat) (hd : 4 ≤ d) (h : SG) (x0_1 : Int32) (x0_2 : Int32) (x0_3 : Int32) : mS B d 119 [.ref 92, .int x0_1, .int x0_2, .int x0_3] h = evS B d 119 3 [(0, .ref 92), (1, .int x0_1), (3, .int x0_3), (4, .int x0_2)] [] h := by
  obtain ⟨d, rfl⟩ : ∃ e, d = e + 4 := ⟨d - 4, by omega⟩
  show evS B (d + 4) 119 0 [(0, .ref 92), (1, .int x0_1), (2, .int x0_2), (3, .int x0_3)] [] h = _
  refine (es_st 2 (pc' := 3) (L' := [(4, .int x0_2), (0, .ref 92), (1, .int x0_1), (2, .int x0_2), (3, .int x0_3)]) (S' := []) (h' := h) rfl).trans ?_
  exact es_cut rfl rfl rfl
theorem sX5_work_3 (B : Bool) (d : Nat) (hd : 4 ≤ d) (h : SG) (x0_1 : Int32) (x0_3 : Int32) (x0_4 : Int32) : evS B d 119 3 [(0, .ref 92), (1, .int x0_1), (3, .int x0_3), (4, .int x0_4)] [] h = if x0_3 ≤ x0_4 then some (.inl none, h) else if x0_3 ≤ (x0_4 + (1 : Int32)) then evS B d 119 33 [(0, .ref 92), (1, .int x0_1), (3, .int x0_3), (4, .int x0_4)] [.int x0_4, .ref 102] h else evS B d 119 33 [(0, .ref 92), (1, .int x0_1), (3, .int x0_3), (4, .int x0_4)] [.int (x0_4 + (1 : Int32)), .ref 102] h := by
  obtain ⟨d, rfl⟩ : ∃ e, d = e + 4 := ⟨d - 4, by omega⟩
  refine (es_st 2 (pc' := 6) (L' := [(0, .ref 92), (1, .int x0_1), (3, .int x0_3), (4, .int x0_4)]) (S' := [.int x0_3, .int x0_4]) (h' := h) rfl).trans ?_
  refine (is_ge (t := 256) rfl rfl rfl).trans (if_cg ?_ ?_)
  · exact es_fin rfl rfl rfl
  · refine (es_st 7 (pc' := 21) (L' := [(0, .ref 92), (1, .int x0_1), (3, .int x0_3), (4, .int x0_4)]) (S' := [.int x0_3, .int (x0_4 + (1 : Int32)), .ref 102]) (h' := h) rfl).trans ?_
    refine (is_ge (t := 31) rfl rfl rfl).trans (if_cg ?_ ?_)
    · refine (es_st 1 (pc' := 33) (L' := [(0, .ref 92), (1, .int x0_1), (3, .int x0_3), (4, .int x0_4)]) (S' := [.int x0_4, .ref 102]) (h' := h) rfl).trans ?_
      exact es_cut rfl rfl rfl
    · refine (es_st 4 (pc' := 33) (L' := [(0, .ref 92), (1, .int x0_1), (3, .int x0_3), (4, .int x0_4)]) (S' := [.int (x0_4 + (1 : Int32)), .ref 102]) (h' := h) rfl).trans ?_
      exact es_cut rfl rfl rfl
theorem sX5_work_33 (B : Bool) (d : Nat) (hd : 4 ≤ d) (h : SG) (x0_1 : Int32) (x0_3 : Int32) (x0_4 : Int32) (s0 : Int32) : evS B d 119 33 [(0, .ref 92), (1, .int x0_1), (3, .int x0_3), (4, .int x0_4)] [.int s0, .ref 102] h = ob (rAt h 102 s0) (fun x1 => ob (rAt h 102 x0_4) (fun x2 => if x2 = (0 : Int32) then kJ (mS B (d - 1) 120 [.ref 92, .int (x0_4 + (2 : Int32))] h) (fun y4 h3 => kV (mS B (d - 1) 155 [.ref 112, .int x1, .long y4] h3) (fun h5 => kI (mS B (d - 1) 110 [.ref 92, .int x0_4] h5) (fun x7 h6 => evS B d 119 3 [(0, .ref 92), (1, .int x0_1), (3, .int x0_3), (4, .int (x0_4 + x7))] [] h6))) else if x2 = (1 : Int32) then kI (mS B (d - 1) 109 [.ref 92, .int x0_1, .int x1] h) (fun x9 h8 => kI (mS B (d - 1) 116 [.ref 92, .int x9] h8) (fun x11 h10 => kI (mS B (d - 1) 115 [.ref 92, .int x9] h10) (fun x13 h12 => kV (mS B (d - 1) 156 [.ref 112, .ref 121, .int x11, .int x13] h12) (fun h14 => kI (mS B (d - 1) 110 [.ref 92, .int x0_4] h14) (fun x16 h15 => evS B d 119 3 [(0, .ref 92), (1, .int x0_1), (3, .int x0_3), (4, .int (x0_4 + x16))] [] h15))))) else if x2 = (2 : Int32) then ob (rAt h 102 (x0_4 + (2 : Int32))) (fun x17 => kV (mS B (d - 1) 157 [.ref 112, .int x1, .int x17] h) (fun h18 => kI (mS B (d - 1) 110 [.ref 92, .int x0_4] h18) (fun x20 h19 => evS B d 119 3 [(0, .ref 92), (1, .int x0_1), (3, .int x0_3), (4, .int (x0_4 + x20))] [] h19))) else if x2 = (3 : Int32) then kV (mS B (d - 1) 160 [.ref 112] h) (fun h21 => kI (mS B (d - 1) 110 [.ref 92, .int x0_4] h21) (fun x23 h22 => evS B d 119 3 [(0, .ref 92), (1, .int x0_1), (3, .int x0_3), (4, .int (x0_4 + x23))] [] h22)) else if x2 = (4 : Int32) then kV (mS B (d - 1) 162 [.ref 112, .int x1] h) (fun h24 => kI (mS B (d - 1) 110 [.ref 92, .int x0_4] h24) (fun x26 h25 => evS B d 119 3 [(0, .ref 92), (1, .int x0_1), (3, .int x0_3), (4, .int (x0_4 + x26))] [] h25)) else if x2 = (5 : Int32) then kV (mS B (d - 1) 166 [.ref 112, .int x1] h) (fun h27 => kI (mS B (d - 1) 110 [.ref 92, .int x0_4] h27) (fun x29 h28 => evS B d 119 3 [(0, .ref 92), (1, .int x0_1), (3, .int x0_3), (4, .int (x0_4 + x29))] [] h28)) else if x2 = (6 : Int32) then kV (mS B (d - 1) 173 [.ref 112] h) (fun h30 => kI (mS B (d - 1) 110 [.ref 92, .int x0_4] h30) (fun x32 h31 => evS B d 119 3 [(0, .ref 92), (1, .int x0_1), (3, .int x0_3), (4, .int (x0_4 + x32))] [] h31)) else if x2 = (7 : Int32) then kV (mS B (d - 1) 174 [.ref 112, .int x1] h) (fun h33 => kI (mS B (d - 1) 110 [.ref 92, .int x0_4] h33) (fun x35 h34 => evS B d 119 3 [(0, .ref 92), (1, .int x0_1), (3, .int x0_3), (4, .int (x0_4 + x35))] [] h34)) else kV (mS B (d - 1) 175 [.ref 112, .int x1] h) (fun h36 => kI (mS B (d - 1) 110 [.ref 92, .int x0_4] h36) (fun x38 h37 => evS B d 119 3 [(0, .ref 92), (1, .int x0_1), (3, .int x0_3), (4, .int (x0_4 + x38))] [] h37)))) := by
  obtain ⟨d, rfl⟩ : ∃ e, d = e + 4 := ⟨d - 4, by omega⟩
  refine (es_ob (o := rAt h 102 s0) (pc' := 36) (L' := [(0, .ref 92), (1, .int x0_1), (3, .int x0_3), (4, .int x0_4)]) (S' := fun z => [.int z]) (h' := fun z => h) rfl rfl rfl).trans (ob_cg fun x1 => ?_)
  refine (es_st 5 (pc' := 47) (L' := [(5, .int x1), (0, .ref 92), (1, .int x0_1), (3, .int x0_3), (4, .int x0_4)]) (S' := [.int x0_4, .ref 102]) (h' := h) rfl).trans ?_
  refine (es_ob (o := rAt h 102 x0_4) (pc' := 50) (L' := [(5, .int x1), (0, .ref 92), (1, .int x0_1), (3, .int x0_3), (4, .int x0_4)]) (S' := fun z => [.int z]) (h' := fun z => h) rfl rfl rfl).trans (ob_cg fun x2 => ?_)
  refine (es_sw (a := x2) (cs := [((0 : Int32), 96), ((1 : Int32), 116), ((2 : Int32), 151), ((3 : Int32), 177), ((4 : Int32), 187), ((5 : Int32), 199), ((6 : Int32), 211), ((7 : Int32), 221)]) (df := 233) (L' := [(5, .int x1), (0, .ref 92), (1, .int x0_1), (3, .int x0_3), (4, .int x0_4)]) (S' := []) rfl rfl rfl).trans ?_
  refine ss_cons.trans (if_cg ?_ ?_)
  · refine (es_st 7 (pc' := 107) (L' := [(5, .int x1), (0, .ref 92), (1, .int x0_1), (3, .int x0_3), (4, .int x0_4)]) (S' := [.int (x0_4 + (2 : Int32)), .ref 92, .int x1, .ref 112]) (h' := h) rfl).trans ?_
    refine (es_cJ (b := true) (k' := 120) (pc' := 110) (as := [.ref 92, .int (x0_4 + (2 : Int32))]) (S' := [.int x1, .ref 112]) (L' := [(5, .int x1), (0, .ref 92), (1, .int x0_1), (3, .int x0_3), (4, .int x0_4)]) (h' := h) rfl rfl rfl rfl rfl).trans (kJ_cg fun y4 h3 => ?_)
    refine (es_cV (b := true) (k' := 155) (pc' := 113) (as := [.ref 112, .int x1, .long y4]) (S' := []) (L' := [(5, .int x1), (0, .ref 92), (1, .int x0_1), (3, .int x0_3), (4, .int x0_4)]) (h' := h3) rfl rfl rfl rfl rfl).trans (kV_cg fun h5 => ?_)
    refine (es_st 4 (pc' := 247) (L' := [(5, .int x1), (0, .ref 92), (1, .int x0_1), (3, .int x0_3), (4, .int x0_4)]) (S' := [.int x0_4, .ref 92, .int x0_4]) (h' := h5) rfl).trans ?_
    refine (es_cI (b := true) (k' := 110) (pc' := 250) (as := [.ref 92, .int x0_4]) (S' := [.int x0_4]) (L' := [(5, .int x1), (0, .ref 92), (1, .int x0_1), (3, .int x0_3), (4, .int x0_4)]) (h' := h5) rfl rfl rfl rfl rfl).trans (kI_cg fun x7 h6 => ?_)
    refine (es_st 3 (pc' := 3) (L' := [(4, .int (x0_4 + x7)), (5, .int x1), (0, .ref 92), (1, .int x0_1), (3, .int x0_3)]) (S' := []) (h' := h6) rfl).trans ?_
    exact es_cut rfl rfl rfl
  · refine ss_cons.trans (if_cg ?_ ?_)
    · refine (es_st 3 (pc' := 120) (L' := [(5, .int x1), (0, .ref 92), (1, .int x0_1), (3, .int x0_3), (4, .int x0_4)]) (S' := [.int x1, .int x0_1, .ref 92]) (h' := h) rfl).trans ?_
      refine (es_cI (b := true) (k' := 109) (pc' := 123) (as := [.ref 92, .int x0_1, .int x1]) (S' := []) (L' := [(5, .int x1), (0, .ref 92), (1, .int x0_1), (3, .int x0_3), (4, .int x0_4)]) (h' := h) rfl rfl rfl rfl rfl).trans (kI_cg fun x9 h8 => ?_)
      refine (es_st 7 (pc' := 136) (L' := [(6, .int x9), (5, .int x1), (0, .ref 92), (1, .int x0_1), (3, .int x0_3), (4, .int x0_4)]) (S' := [.int x9, .ref 92, .ref 121, .ref 112]) (h' := h8) rfl).trans ?_
      refine (es_cI (b := true) (k' := 116) (pc' := 139) (as := [.ref 92, .int x9]) (S' := [.ref 121, .ref 112]) (L' := [(6, .int x9), (5, .int x1), (0, .ref 92), (1, .int x0_1), (3, .int x0_3), (4, .int x0_4)]) (h' := h8) rfl rfl rfl rfl rfl).trans (kI_cg fun x11 h10 => ?_)
      refine (es_st 2 (pc' := 142) (L' := [(6, .int x9), (5, .int x1), (0, .ref 92), (1, .int x0_1), (3, .int x0_3), (4, .int x0_4)]) (S' := [.int x9, .ref 92, .int x11, .ref 121, .ref 112]) (h' := h10) rfl).trans ?_
      refine (es_cI (b := true) (k' := 115) (pc' := 145) (as := [.ref 92, .int x9]) (S' := [.int x11, .ref 121, .ref 112]) (L' := [(6, .int x9), (5, .int x1), (0, .ref 92), (1, .int x0_1), (3, .int x0_3), (4, .int x0_4)]) (h' := h10) rfl rfl rfl rfl rfl).trans (kI_cg fun x13 h12 => ?_)
      refine (es_cV (b := true) (k' := 156) (pc' := 148) (as := [.ref 112, .ref 121, .int x11, .int x13]) (S' := []) (L' := [(6, .int x9), (5, .int x1), (0, .ref 92), (1, .int x0_1), (3, .int x0_3), (4, .int x0_4)]) (h' := h12) rfl rfl rfl rfl rfl).trans (kV_cg fun h14 => ?_)
      refine (es_st 4 (pc' := 247) (L' := [(6, .int x9), (5, .int x1), (0, .ref 92), (1, .int x0_1), (3, .int x0_3), (4, .int x0_4)]) (S' := [.int x0_4, .ref 92, .int x0_4]) (h' := h14) rfl).trans ?_
      refine (es_cI (b := true) (k' := 110) (pc' := 250) (as := [.ref 92, .int x0_4]) (S' := [.int x0_4]) (L' := [(6, .int x9), (5, .int x1), (0, .ref 92), (1, .int x0_1), (3, .int x0_3), (4, .int x0_4)]) (h' := h14) rfl rfl rfl rfl rfl).trans (kI_cg fun x16 h15 => ?_)
      refine (es_st 3 (pc' := 3) (L' := [(4, .int (x0_4 + x16)), (6, .int x9), (5, .int x1), (0, .ref 92), (1, .int x0_1), (3, .int x0_3)]) (S' := []) (h' := h15) rfl).trans ?_
      exact es_cut rfl rfl rfl
    · refine ss_cons.trans (if_cg ?_ ?_)
      · refine (es_st 9 (pc' := 168) (L' := [(5, .int x1), (0, .ref 92), (1, .int x0_1), (3, .int x0_3), (4, .int x0_4)]) (S' := [.int (x0_4 + (2 : Int32)), .ref 102, .int x1, .ref 112]) (h' := h) rfl).trans ?_
        refine (es_ob (o := rAt h 102 (x0_4 + (2 : Int32))) (pc' := 171) (L' := [(5, .int x1), (0, .ref 92), (1, .int x0_1), (3, .int x0_3), (4, .int x0_4)]) (S' := fun z => [.int z, .int x1, .ref 112]) (h' := fun z => h) rfl rfl rfl).trans (ob_cg fun x17 => ?_)
        refine (es_cV (b := true) (k' := 157) (pc' := 174) (as := [.ref 112, .int x1, .int x17]) (S' := []) (L' := [(5, .int x1), (0, .ref 92), (1, .int x0_1), (3, .int x0_3), (4, .int x0_4)]) (h' := h) rfl rfl rfl rfl rfl).trans (kV_cg fun h18 => ?_)
        refine (es_st 4 (pc' := 247) (L' := [(5, .int x1), (0, .ref 92), (1, .int x0_1), (3, .int x0_3), (4, .int x0_4)]) (S' := [.int x0_4, .ref 92, .int x0_4]) (h' := h18) rfl).trans ?_
        refine (es_cI (b := true) (k' := 110) (pc' := 250) (as := [.ref 92, .int x0_4]) (S' := [.int x0_4]) (L' := [(5, .int x1), (0, .ref 92), (1, .int x0_1), (3, .int x0_3), (4, .int x0_4)]) (h' := h18) rfl rfl rfl rfl rfl).trans (kI_cg fun x20 h19 => ?_)
        refine (es_st 3 (pc' := 3) (L' := [(4, .int (x0_4 + x20)), (5, .int x1), (0, .ref 92), (1, .int x0_1), (3, .int x0_3)]) (S' := []) (h' := h19) rfl).trans ?_
        exact es_cut rfl rfl rfl
      · refine ss_cons.trans (if_cg ?_ ?_)
        · refine (es_st 2 (pc' := 181) (L' := [(5, .int x1), (0, .ref 92), (1, .int x0_1), (3, .int x0_3), (4, .int x0_4)]) (S' := [.ref 112]) (h' := h) rfl).trans ?_
          refine (es_cV (b := true) (k' := 160) (pc' := 184) (as := [.ref 112]) (S' := []) (L' := [(5, .int x1), (0, .ref 92), (1, .int x0_1), (3, .int x0_3), (4, .int x0_4)]) (h' := h) rfl rfl rfl rfl rfl).trans (kV_cg fun h21 => ?_)
          refine (es_st 4 (pc' := 247) (L' := [(5, .int x1), (0, .ref 92), (1, .int x0_1), (3, .int x0_3), (4, .int x0_4)]) (S' := [.int x0_4, .ref 92, .int x0_4]) (h' := h21) rfl).trans ?_
          refine (es_cI (b := true) (k' := 110) (pc' := 250) (as := [.ref 92, .int x0_4]) (S' := [.int x0_4]) (L' := [(5, .int x1), (0, .ref 92), (1, .int x0_1), (3, .int x0_3), (4, .int x0_4)]) (h' := h21) rfl rfl rfl rfl rfl).trans (kI_cg fun x23 h22 => ?_)
          refine (es_st 3 (pc' := 3) (L' := [(4, .int (x0_4 + x23)), (5, .int x1), (0, .ref 92), (1, .int x0_1), (3, .int x0_3)]) (S' := []) (h' := h22) rfl).trans ?_
          exact es_cut rfl rfl rfl
        · refine ss_cons.trans (if_cg ?_ ?_)
          · refine (es_st 3 (pc' := 193) (L' := [(5, .int x1), (0, .ref 92), (1, .int x0_1), (3, .int x0_3), (4, .int x0_4)]) (S' := [.int x1, .ref 112]) (h' := h) rfl).trans ?_
            refine (es_cV (b := true) (k' := 162) (pc' := 196) (as := [.ref 112, .int x1]) (S' := []) (L' := [(5, .int x1), (0, .ref 92), (1, .int x0_1), (3, .int x0_3), (4, .int x0_4)]) (h' := h) rfl rfl rfl rfl rfl).trans (kV_cg fun h24 => ?_)
            refine (es_st 4 (pc' := 247) (L' := [(5, .int x1), (0, .ref 92), (1, .int x0_1), (3, .int x0_3), (4, .int x0_4)]) (S' := [.int x0_4, .ref 92, .int x0_4]) (h' := h24) rfl).trans ?_
            refine (es_cI (b := true) (k' := 110) (pc' := 250) (as := [.ref 92, .int x0_4]) (S' := [.int x0_4]) (L' := [(5, .int x1), (0, .ref 92), (1, .int x0_1), (3, .int x0_3), (4, .int x0_4)]) (h' := h24) rfl rfl rfl rfl rfl).trans (kI_cg fun x26 h25 => ?_)
            refine (es_st 3 (pc' := 3) (L' := [(4, .int (x0_4 + x26)), (5, .int x1), (0, .ref 92), (1, .int x0_1), (3, .int x0_3)]) (S' := []) (h' := h25) rfl).trans ?_
            exact es_cut rfl rfl rfl
          · refine ss_cons.trans (if_cg ?_ ?_)
            · refine (es_st 3 (pc' := 205) (L' := [(5, .int x1), (0, .ref 92), (1, .int x0_1), (3, .int x0_3), (4, .int x0_4)]) (S' := [.int x1, .ref 112]) (h' := h) rfl).trans ?_
              refine (es_cV (b := true) (k' := 166) (pc' := 208) (as := [.ref 112, .int x1]) (S' := []) (L' := [(5, .int x1), (0, .ref 92), (1, .int x0_1), (3, .int x0_3), (4, .int x0_4)]) (h' := h) rfl rfl rfl rfl rfl).trans (kV_cg fun h27 => ?_)
              refine (es_st 4 (pc' := 247) (L' := [(5, .int x1), (0, .ref 92), (1, .int x0_1), (3, .int x0_3), (4, .int x0_4)]) (S' := [.int x0_4, .ref 92, .int x0_4]) (h' := h27) rfl).trans ?_
              refine (es_cI (b := true) (k' := 110) (pc' := 250) (as := [.ref 92, .int x0_4]) (S' := [.int x0_4]) (L' := [(5, .int x1), (0, .ref 92), (1, .int x0_1), (3, .int x0_3), (4, .int x0_4)]) (h' := h27) rfl rfl rfl rfl rfl).trans (kI_cg fun x29 h28 => ?_)
              refine (es_st 3 (pc' := 3) (L' := [(4, .int (x0_4 + x29)), (5, .int x1), (0, .ref 92), (1, .int x0_1), (3, .int x0_3)]) (S' := []) (h' := h28) rfl).trans ?_
              exact es_cut rfl rfl rfl
            · refine ss_cons.trans (if_cg ?_ ?_)
              · refine (es_st 2 (pc' := 215) (L' := [(5, .int x1), (0, .ref 92), (1, .int x0_1), (3, .int x0_3), (4, .int x0_4)]) (S' := [.ref 112]) (h' := h) rfl).trans ?_
                refine (es_cV (b := true) (k' := 173) (pc' := 218) (as := [.ref 112]) (S' := []) (L' := [(5, .int x1), (0, .ref 92), (1, .int x0_1), (3, .int x0_3), (4, .int x0_4)]) (h' := h) rfl rfl rfl rfl rfl).trans (kV_cg fun h30 => ?_)
                refine (es_st 4 (pc' := 247) (L' := [(5, .int x1), (0, .ref 92), (1, .int x0_1), (3, .int x0_3), (4, .int x0_4)]) (S' := [.int x0_4, .ref 92, .int x0_4]) (h' := h30) rfl).trans ?_
                refine (es_cI (b := true) (k' := 110) (pc' := 250) (as := [.ref 92, .int x0_4]) (S' := [.int x0_4]) (L' := [(5, .int x1), (0, .ref 92), (1, .int x0_1), (3, .int x0_3), (4, .int x0_4)]) (h' := h30) rfl rfl rfl rfl rfl).trans (kI_cg fun x32 h31 => ?_)
                refine (es_st 3 (pc' := 3) (L' := [(4, .int (x0_4 + x32)), (5, .int x1), (0, .ref 92), (1, .int x0_1), (3, .int x0_3)]) (S' := []) (h' := h31) rfl).trans ?_
                exact es_cut rfl rfl rfl
              · refine ss_cons.trans (if_cg ?_ ?_)
                · refine (es_st 3 (pc' := 227) (L' := [(5, .int x1), (0, .ref 92), (1, .int x0_1), (3, .int x0_3), (4, .int x0_4)]) (S' := [.int x1, .ref 112]) (h' := h) rfl).trans ?_
                  refine (es_cV (b := true) (k' := 174) (pc' := 230) (as := [.ref 112, .int x1]) (S' := []) (L' := [(5, .int x1), (0, .ref 92), (1, .int x0_1), (3, .int x0_3), (4, .int x0_4)]) (h' := h) rfl rfl rfl rfl rfl).trans (kV_cg fun h33 => ?_)
                  refine (es_st 4 (pc' := 247) (L' := [(5, .int x1), (0, .ref 92), (1, .int x0_1), (3, .int x0_3), (4, .int x0_4)]) (S' := [.int x0_4, .ref 92, .int x0_4]) (h' := h33) rfl).trans ?_
                  refine (es_cI (b := true) (k' := 110) (pc' := 250) (as := [.ref 92, .int x0_4]) (S' := [.int x0_4]) (L' := [(5, .int x1), (0, .ref 92), (1, .int x0_1), (3, .int x0_3), (4, .int x0_4)]) (h' := h33) rfl rfl rfl rfl rfl).trans (kI_cg fun x35 h34 => ?_)
                  refine (es_st 3 (pc' := 3) (L' := [(4, .int (x0_4 + x35)), (5, .int x1), (0, .ref 92), (1, .int x0_1), (3, .int x0_3)]) (S' := []) (h' := h34) rfl).trans ?_
                  exact es_cut rfl rfl rfl
                · refine (es_st 3 (pc' := 239) (L' := [(5, .int x1), (0, .ref 92), (1, .int x0_1), (3, .int x0_3), (4, .int x0_4)]) (S' := [.int x1, .ref 112]) (h' := h) rfl).trans ?_
                  refine (es_cV (b := true) (k' := 175) (pc' := 242) (as := [.ref 112, .int x1]) (S' := []) (L' := [(5, .int x1), (0, .ref 92), (1, .int x0_1), (3, .int x0_3), (4, .int x0_4)]) (h' := h) rfl rfl rfl rfl rfl).trans (kV_cg fun h36 => ?_)
                  refine (es_st 3 (pc' := 247) (L' := [(5, .int x1), (0, .ref 92), (1, .int x0_1), (3, .int x0_3), (4, .int x0_4)]) (S' := [.int x0_4, .ref 92, .int x0_4]) (h' := h36) rfl).trans ?_
                  refine (es_cI (b := true) (k' := 110) (pc' := 250) (as := [.ref 92, .int x0_4]) (S' := [.int x0_4]) (L' := [(5, .int x1), (0, .ref 92), (1, .int x0_1), (3, .int x0_3), (4, .int x0_4)]) (h' := h36) rfl rfl rfl rfl rfl).trans (kI_cg fun x38 h37 => ?_)
                  refine (es_st 3 (pc' := 3) (L' := [(4, .int (x0_4 + x38)), (5, .int x1), (0, .ref 92), (1, .int x0_1), (3, .int x0_3)]) (S' := []) (h' := h37) rfl).trans ?_
                  exact es_cut rfl rfl rfl
theorem sX5_value_0 (B : Bool) (d : Nat) (hd : 4 ≤ d) (h : SG) (x0_1 : Int32) : mS B d 120 [.ref 92, .int x0_1] h = ob (rAt h 102 x0_1) (fun x1 => ob (rAt h 102 (x0_1 + (1 : Int32))) (fun x2 => some (.inl (some (.long ((x1.toInt64 &&& (4294967295 : Int64)) ||| (x2.toInt64 <<< ((32 : Int32).toInt64 &&& 63))))), h))) := by
  obtain ⟨d, rfl⟩ : ∃ e, d = e + 4 := ⟨d - 4, by omega⟩
  show evS B (d + 4) 120 0 [(0, .ref 92), (1, .int x0_1)] [] h = _
  refine (es_st 4 (pc' := 8) (L' := [(0, .ref 92), (1, .int x0_1)]) (S' := [.int x0_1, .ref 102]) (h' := h) rfl).trans ?_
  refine (es_ob (o := rAt h 102 x0_1) (pc' := 11) (L' := [(0, .ref 92), (1, .int x0_1)]) (S' := fun z => [.int z]) (h' := fun z => h) rfl rfl rfl).trans (ob_cg fun x1 => ?_)
  refine (es_st 9 (pc' := 26) (L' := [(0, .ref 92), (1, .int x0_1)]) (S' := [.int (x0_1 + (1 : Int32)), .ref 102, .long (x1.toInt64 &&& (4294967295 : Int64))]) (h' := h) rfl).trans ?_
  refine (es_ob (o := rAt h 102 (x0_1 + (1 : Int32))) (pc' := 29) (L' := [(0, .ref 92), (1, .int x0_1)]) (S' := fun z => [.int z, .long (x1.toInt64 &&& (4294967295 : Int64))]) (h' := fun z => h) rfl rfl rfl).trans (ob_cg fun x2 => ?_)
  refine (es_st 4 (pc' := 34) (L' := [(0, .ref 92), (1, .int x0_1)]) (S' := [.long ((x1.toInt64 &&& (4294967295 : Int64)) ||| (x2.toInt64 <<< ((32 : Int32).toInt64 &&& 63)))]) (h' := h) rfl).trans ?_
  exact es_fin rfl rfl rfl
theorem sX5_nexts_0 (B : Bool) (d : Nat) (hd : 4 ≤ d) (h : SG) : mS B d 121 [.ref 92] h = ob (pSz h 133 (0 : Int32)) (fun h1 => evS B d 121 10 [(0, .ref 92), (1, .int (0 : Int32))] [] h1) := by
  obtain ⟨d, rfl⟩ : ∃ e, d = e + 4 := ⟨d - 4, by omega⟩
  show evS B (d + 4) 121 0 [(0, .ref 92)] [] h = _
  refine (es_st 3 (pc' := 5) (L' := [(0, .ref 92)]) (S' := [.int (0 : Int32), .ref 133]) (h' := h) rfl).trans ?_
  refine (es_ob (o := pSz h 133 (0 : Int32)) (pc' := 8) (L' := [(0, .ref 92)]) (S' := fun z => []) (h' := fun z => z) rfl rfl rfl).trans (ob_cg fun h1 => ?_)
  refine (es_st 2 (pc' := 10) (L' := [(1, .int (0 : Int32)), (0, .ref 92)]) (S' := []) (h' := h1) rfl).trans ?_
  exact es_cut rfl rfl rfl
theorem sX5_nexts_10 (B : Bool) (d : Nat) (hd : 4 ≤ d) (h : SG) (x0_1 : Int32) : evS B d 121 10 [(0, .ref 92), (1, .int x0_1)] [] h = if (Int32.ofNat (sW h 131).length) ≤ x0_1 then ob (pSz h 135 (0 : Int32)) (fun h1 => evS B d 121 60 [(0, .ref 92), (1, .int (0 : Int32))] [] (uF h1 92 15 (0 : Int32))) else ob (rAt h 131 x0_1) (fun x2 => ob (rAdd h 133 ((2 : Int32) * x2)) (fun q3 => evS B d 121 10 [(0, .ref 92), (1, .int (x0_1 + (1 : Int32)))] [] q3.2)) := by
  obtain ⟨d, rfl⟩ : ∃ e, d = e + 4 := ⟨d - 4, by omega⟩
  refine (es_st 4 (pc' := 18) (L' := [(0, .ref 92), (1, .int x0_1)]) (S' := [.int (Int32.ofNat (sW h 131).length), .int x0_1]) (h' := h) rfl).trans ?_
  refine (is_ge (t := 45) rfl rfl rfl).trans (if_cg ?_ ?_)
  · refine (es_st 3 (pc' := 50) (L' := [(0, .ref 92), (1, .int x0_1)]) (S' := [.int (0 : Int32), .ref 135]) (h' := h) rfl).trans ?_
    refine (es_ob (o := pSz h 135 (0 : Int32)) (pc' := 53) (L' := [(0, .ref 92), (1, .int x0_1)]) (S' := fun z => []) (h' := fun z => z) rfl rfl rfl).trans (ob_cg fun h1 => ?_)
    refine (es_st 5 (pc' := 60) (L' := [(1, .int (0 : Int32)), (0, .ref 92)]) (S' := []) (h' := (uF h1 92 15 (0 : Int32))) rfl).trans ?_
    exact es_cut rfl rfl rfl
  · refine (es_st 6 (pc' := 31) (L' := [(0, .ref 92), (1, .int x0_1)]) (S' := [.int x0_1, .ref 131, .int (2 : Int32), .ref 133]) (h' := h) rfl).trans ?_
    refine (es_ob (o := rAt h 131 x0_1) (pc' := 34) (L' := [(0, .ref 92), (1, .int x0_1)]) (S' := fun z => [.int z, .int (2 : Int32), .ref 133]) (h' := fun z => h) rfl rfl rfl).trans (ob_cg fun x2 => ?_)
    refine (es_st 1 (pc' := 35) (L' := [(0, .ref 92), (1, .int x0_1)]) (S' := [.int ((2 : Int32) * x2), .ref 133]) (h' := h) rfl).trans ?_
    refine (es_ob (o := rAdd h 133 ((2 : Int32) * x2)) (pc' := 38) (L' := [(0, .ref 92), (1, .int x0_1)]) (S' := fun z => [.int z.1]) (h' := fun z => z.2) rfl rfl rfl).trans (ob_cg fun q3 => ?_)
    refine (es_st 3 (pc' := 10) (L' := [(1, .int (x0_1 + (1 : Int32))), (0, .ref 92)]) (S' := []) (h' := q3.2) rfl).trans ?_
    exact es_cut rfl rfl rfl
theorem sX5_nexts_60 (B : Bool) (d : Nat) (hd : 4 ≤ d) (h : SG) (x0_1 : Int32) : evS B d 121 60 [(0, .ref 92), (1, .int x0_1)] [] h = if ((Int32.ofNat (sW h 117).length) / (4 : Int32)) ≤ x0_1 then some (.inl none, (uF h 92 16 (sF h 107 4))) else ob (rAt h 117 ((4 : Int32) * x0_1)) (fun x1 => kI (mS B (d - 1) 142 [.ref 93, .int x1] h) (fun x3 h2 => evS B d 121 93 [(0, .ref 92), (1, .int x0_1), (2, .int x1), (3, .int x3)] [] h2)) := by
  obtain ⟨d, rfl⟩ : ∃ e, d = e + 4 := ⟨d - 4, by omega⟩
  refine (es_st 6 (pc' := 70) (L' := [(0, .ref 92), (1, .int x0_1)]) (S' := [.int ((Int32.ofNat (sW h 117).length) / (4 : Int32)), .int x0_1]) (h' := h) rfl).trans ?_
  refine (is_ge (t := 238) rfl rfl rfl).trans (if_cg ?_ ?_)
  · refine (es_st 5 (pc' := 249) (L' := [(0, .ref 92), (1, .int x0_1)]) (S' := []) (h' := (uF h 92 16 (sF h 107 4))) rfl).trans ?_
    exact es_fin rfl rfl rfl
  · refine (es_st 5 (pc' := 80) (L' := [(0, .ref 92), (1, .int x0_1)]) (S' := [.int ((4 : Int32) * x0_1), .ref 117]) (h' := h) rfl).trans ?_
    refine (es_ob (o := rAt h 117 ((4 : Int32) * x0_1)) (pc' := 83) (L' := [(0, .ref 92), (1, .int x0_1)]) (S' := fun z => [.int z]) (h' := fun z => h) rfl rfl rfl).trans (ob_cg fun x1 => ?_)
    refine (es_st 4 (pc' := 89) (L' := [(2, .int x1), (0, .ref 92), (1, .int x0_1)]) (S' := [.int x1, .ref 93]) (h' := h) rfl).trans ?_
    refine (es_cI (b := true) (k' := 142) (pc' := 92) (as := [.ref 93, .int x1]) (S' := []) (L' := [(2, .int x1), (0, .ref 92), (1, .int x0_1)]) (h' := h) rfl rfl rfl rfl rfl).trans (kI_cg fun x3 h2 => ?_)
    refine (es_st 1 (pc' := 93) (L' := [(3, .int x3), (2, .int x1), (0, .ref 92), (1, .int x0_1)]) (S' := []) (h' := h2) rfl).trans ?_
    exact es_cut rfl rfl rfl
theorem sX5_nexts_93 (B : Bool) (d : Nat) (hd : 4 ≤ d) (h : SG) (x0_1 : Int32) (x0_2 : Int32) (x0_3 : Int32) : evS B d 121 93 [(0, .ref 92), (1, .int x0_1), (2, .int x0_2), (3, .int x0_3)] [] h = kI (mS B (d - 1) 143 [.ref 93, .int x0_2] h) (fun x2 h1 => if x2 ≤ x0_3 then evS B d 121 60 [(0, .ref 92), (1, .int (x0_1 + (1 : Int32)))] [] h1 else ob (rAt h1 98 (((4 : Int32) * x0_3) + (2 : Int32))) (fun x3 => ob (rAt h1 98 (((4 : Int32) * x0_3) + (3 : Int32))) (fun x4 => ob (rAt h1 98 ((4 : Int32) * x0_3)) (fun x5 => if x5 = (1 : Int32) then kV (mS B (d - 1) 122 [.ref 92, .int x0_1, .int x3, .int x4] h1) (fun h6 => evS B d 121 165 [(0, .ref 92), (1, .int x0_1), (2, .int x0_2), (3, .int x0_3), (4, .int x3), (5, .int x4)] [] h6) else evS B d 121 165 [(0, .ref 92), (1, .int x0_1), (2, .int x0_2), (3, .int x0_3), (4, .int x3), (5, .int x4)] [] h1)))) := by
  obtain ⟨d, rfl⟩ : ∃ e, d = e + 4 := ⟨d - 4, by omega⟩
  refine (es_st 4 (pc' := 99) (L' := [(0, .ref 92), (1, .int x0_1), (2, .int x0_2), (3, .int x0_3)]) (S' := [.int x0_2, .ref 93, .int x0_3]) (h' := h) rfl).trans ?_
  refine (es_cI (b := true) (k' := 143) (pc' := 102) (as := [.ref 93, .int x0_2]) (S' := [.int x0_3]) (L' := [(0, .ref 92), (1, .int x0_1), (2, .int x0_2), (3, .int x0_3)]) (h' := h) rfl rfl rfl rfl rfl).trans (kI_cg fun x2 h1 => ?_)
  refine (is_ge (t := 232) rfl rfl rfl).trans (if_cg ?_ ?_)
  · refine (es_st 2 (pc' := 60) (L' := [(1, .int (x0_1 + (1 : Int32))), (0, .ref 92), (2, .int x0_2), (3, .int x0_3)]) (S' := []) (h' := h1) rfl).trans ?_
    exact es_cut rfl rfl rfl
  · refine (es_st 8 (pc' := 117) (L' := [(0, .ref 92), (1, .int x0_1), (2, .int x0_2), (3, .int x0_3)]) (S' := [.int (((4 : Int32) * x0_3) + (2 : Int32)), .ref 98]) (h' := h1) rfl).trans ?_
    refine (es_ob (o := rAt h1 98 (((4 : Int32) * x0_3) + (2 : Int32))) (pc' := 120) (L' := [(0, .ref 92), (1, .int x0_1), (2, .int x0_2), (3, .int x0_3)]) (S' := fun z => [.int z]) (h' := fun z => h1) rfl rfl rfl).trans (ob_cg fun x3 => ?_)
    refine (es_st 9 (pc' := 134) (L' := [(4, .int x3), (0, .ref 92), (1, .int x0_1), (2, .int x0_2), (3, .int x0_3)]) (S' := [.int (((4 : Int32) * x0_3) + (3 : Int32)), .ref 98]) (h' := h1) rfl).trans ?_
    refine (es_ob (o := rAt h1 98 (((4 : Int32) * x0_3) + (3 : Int32))) (pc' := 137) (L' := [(4, .int x3), (0, .ref 92), (1, .int x0_1), (2, .int x0_2), (3, .int x0_3)]) (S' := fun z => [.int z]) (h' := fun z => h1) rfl rfl rfl).trans (ob_cg fun x4 => ?_)
    refine (es_st 7 (pc' := 149) (L' := [(5, .int x4), (4, .int x3), (0, .ref 92), (1, .int x0_1), (2, .int x0_2), (3, .int x0_3)]) (S' := [.int ((4 : Int32) * x0_3), .ref 98]) (h' := h1) rfl).trans ?_
    refine (es_ob (o := rAt h1 98 ((4 : Int32) * x0_3)) (pc' := 152) (L' := [(5, .int x4), (4, .int x3), (0, .ref 92), (1, .int x0_1), (2, .int x0_2), (3, .int x0_3)]) (S' := fun z => [.int z]) (h' := fun z => h1) rfl rfl rfl).trans (ob_cg fun x5 => ?_)
    refine (es_st 1 (pc' := 153) (L' := [(5, .int x4), (4, .int x3), (0, .ref 92), (1, .int x0_1), (2, .int x0_2), (3, .int x0_3)]) (S' := [.int (1 : Int32), .int x5]) (h' := h1) rfl).trans ?_
    refine (is_ne (t := 165) rfl rfl rfl).trans (if_cg ?_ ?_)
    · refine (es_st 4 (pc' := 162) (L' := [(5, .int x4), (4, .int x3), (0, .ref 92), (1, .int x0_1), (2, .int x0_2), (3, .int x0_3)]) (S' := [.int x4, .int x3, .int x0_1, .ref 92]) (h' := h1) rfl).trans ?_
      refine (es_cV (b := true) (k' := 122) (pc' := 165) (as := [.ref 92, .int x0_1, .int x3, .int x4]) (S' := []) (L' := [(5, .int x4), (4, .int x3), (0, .ref 92), (1, .int x0_1), (2, .int x0_2), (3, .int x0_3)]) (h' := h1) rfl rfl rfl rfl rfl).trans (kV_cg fun h6 => ?_)
      exact es_cut rfl rfl rfl
    · exact es_cut rfl rfl rfl
theorem sX5_nexts_165 (B : Bool) (d : Nat) (hd : 4 ≤ d) (h : SG) (x0_1 : Int32) (x0_2 : Int32) (x0_3 : Int32) (x0_4 : Int32) (x0_5 : Int32) : evS B d 121 165 [(0, .ref 92), (1, .int x0_1), (2, .int x0_2), (3, .int x0_3), (4, .int x0_4), (5, .int x0_5)] [] h = ob (rAt h 98 ((4 : Int32) * x0_3)) (fun x1 => if x1 = (3 : Int32) then kI (mS B (d - 1) 125 [.ref 92, .int x0_1, .int x0_4, .int x0_5] h) (fun x3 h2 => ob (rAdd h2 135 x3) (fun q4 => ob (rTop q4.2 135) (fun x5 => kI (mS B (d - 1) 150 [.ref 107, .int (sF q4.2 92 15), .int (x5 ^^^ (1 : Int32))] q4.2) (fun x7 h6 => evS B d 121 93 [(0, .ref 92), (1, .int x0_1), (2, .int x0_2), (3, .int (x0_3 + (1 : Int32)))] [] (uF h6 92 15 x7))))) else evS B d 121 93 [(0, .ref 92), (1, .int x0_1), (2, .int x0_2), (3, .int (x0_3 + (1 : Int32)))] [] h) := by
  obtain ⟨d, rfl⟩ : ∃ e, d = e + 4 := ⟨d - 4, by omega⟩
  refine (es_st 6 (pc' := 175) (L' := [(0, .ref 92), (1, .int x0_1), (2, .int x0_2), (3, .int x0_3), (4, .int x0_4), (5, .int x0_5)]) (S' := [.int ((4 : Int32) * x0_3), .ref 98]) (h' := h) rfl).trans ?_
  refine (es_ob (o := rAt h 98 ((4 : Int32) * x0_3)) (pc' := 178) (L' := [(0, .ref 92), (1, .int x0_1), (2, .int x0_2), (3, .int x0_3), (4, .int x0_4), (5, .int x0_5)]) (S' := fun z => [.int z]) (h' := fun z => h) rfl rfl rfl).trans (ob_cg fun x1 => ?_)
  refine (es_st 1 (pc' := 179) (L' := [(0, .ref 92), (1, .int x0_1), (2, .int x0_2), (3, .int x0_3), (4, .int x0_4), (5, .int x0_5)]) (S' := [.int (3 : Int32), .int x1]) (h' := h) rfl).trans ?_
  refine (is_eq (t := 185) rfl rfl rfl).trans (if_cg ?_ ?_)
  · refine (es_st 6 (pc' := 195) (L' := [(0, .ref 92), (1, .int x0_1), (2, .int x0_2), (3, .int x0_3), (4, .int x0_4), (5, .int x0_5)]) (S' := [.int x0_5, .int x0_4, .int x0_1, .ref 92, .ref 135]) (h' := h) rfl).trans ?_
    refine (es_cI (b := true) (k' := 125) (pc' := 198) (as := [.ref 92, .int x0_1, .int x0_4, .int x0_5]) (S' := [.ref 135]) (L' := [(0, .ref 92), (1, .int x0_1), (2, .int x0_2), (3, .int x0_3), (4, .int x0_4), (5, .int x0_5)]) (h' := h) rfl rfl rfl rfl rfl).trans (kI_cg fun x3 h2 => ?_)
    refine (es_ob (o := rAdd h2 135 x3) (pc' := 201) (L' := [(0, .ref 92), (1, .int x0_1), (2, .int x0_2), (3, .int x0_3), (4, .int x0_4), (5, .int x0_5)]) (S' := fun z => [.int z.1]) (h' := fun z => z.2) rfl rfl rfl).trans (ob_cg fun q4 => ?_)
    refine (es_st 8 (pc' := 215) (L' := [(0, .ref 92), (1, .int x0_1), (2, .int x0_2), (3, .int x0_3), (4, .int x0_4), (5, .int x0_5)]) (S' := [.ref 135, .int (sF q4.2 92 15), .ref 107, .ref 92]) (h' := q4.2) rfl).trans ?_
    refine (es_ob (o := rTop q4.2 135) (pc' := 218) (L' := [(0, .ref 92), (1, .int x0_1), (2, .int x0_2), (3, .int x0_3), (4, .int x0_4), (5, .int x0_5)]) (S' := fun z => [.int z, .int (sF q4.2 92 15), .ref 107, .ref 92]) (h' := fun z => q4.2) rfl rfl rfl).trans (ob_cg fun x5 => ?_)
    refine (es_st 2 (pc' := 220) (L' := [(0, .ref 92), (1, .int x0_1), (2, .int x0_2), (3, .int x0_3), (4, .int x0_4), (5, .int x0_5)]) (S' := [.int (x5 ^^^ (1 : Int32)), .int (sF q4.2 92 15), .ref 107, .ref 92]) (h' := q4.2) rfl).trans ?_
    refine (es_cI (b := true) (k' := 150) (pc' := 223) (as := [.ref 107, .int (sF q4.2 92 15), .int (x5 ^^^ (1 : Int32))]) (S' := [.ref 92]) (L' := [(0, .ref 92), (1, .int x0_1), (2, .int x0_2), (3, .int x0_3), (4, .int x0_4), (5, .int x0_5)]) (h' := q4.2) rfl rfl rfl rfl rfl).trans (kI_cg fun x7 h6 => ?_)
    refine (es_st 3 (pc' := 93) (L' := [(3, .int (x0_3 + (1 : Int32))), (0, .ref 92), (1, .int x0_1), (2, .int x0_2), (4, .int x0_4), (5, .int x0_5)]) (S' := []) (h' := (uF h6 92 15 x7)) rfl).trans ?_
    exact es_cut rfl rfl rfl
  · refine (es_st 3 (pc' := 93) (L' := [(3, .int (x0_3 + (1 : Int32))), (0, .ref 92), (1, .int x0_1), (2, .int x0_2), (4, .int x0_4), (5, .int x0_5)]) (S' := []) (h' := h) rfl).trans ?_
    exact es_cut rfl rfl rfl
theorem sX5_acts_0 (B : Bool) (d : Nat) (hd : 4 ≤ d) (h : SG) (x0_1 : Int32) (x0_2 : Int32) (x0_3 : Int32) : mS B d 122 [.ref 92, .int x0_1, .int x0_2, .int x0_3] h = ob (pSz (uF h 92 24 (1 : Int32)) 140 (0 : Int32)) (fun h1 => ob (pSz h1 142 (0 : Int32)) (fun h2 => evS B d 122 24 [(0, .ref 92), (1, .int x0_1), (3, .int x0_3), (4, .int x0_2)] [] h2)) := by
  obtain ⟨d, rfl⟩ : ∃ e, d = e + 4 := ⟨d - 4, by omega⟩
  show evS B (d + 4) 122 0 [(0, .ref 92), (1, .int x0_1), (2, .int x0_2), (3, .int x0_3)] [] h = _
  refine (es_st 6 (pc' := 10) (L' := [(0, .ref 92), (1, .int x0_1), (2, .int x0_2), (3, .int x0_3)]) (S' := [.int (0 : Int32), .ref 140]) (h' := (uF h 92 24 (1 : Int32))) rfl).trans ?_
  refine (es_ob (o := pSz (uF h 92 24 (1 : Int32)) 140 (0 : Int32)) (pc' := 13) (L' := [(0, .ref 92), (1, .int x0_1), (2, .int x0_2), (3, .int x0_3)]) (S' := fun z => []) (h' := fun z => z) rfl rfl rfl).trans (ob_cg fun h1 => ?_)
  refine (es_st 3 (pc' := 18) (L' := [(0, .ref 92), (1, .int x0_1), (2, .int x0_2), (3, .int x0_3)]) (S' := [.int (0 : Int32), .ref 142]) (h' := h1) rfl).trans ?_
  refine (es_ob (o := pSz h1 142 (0 : Int32)) (pc' := 21) (L' := [(0, .ref 92), (1, .int x0_1), (2, .int x0_2), (3, .int x0_3)]) (S' := fun z => []) (h' := fun z => z) rfl rfl rfl).trans (ob_cg fun h2 => ?_)
  refine (es_st 2 (pc' := 24) (L' := [(4, .int x0_2), (0, .ref 92), (1, .int x0_1), (2, .int x0_2), (3, .int x0_3)]) (S' := []) (h' := h2) rfl).trans ?_
  exact es_cut rfl rfl rfl
theorem sX5_acts_24 (B : Bool) (d : Nat) (hd : 4 ≤ d) (h : SG) (x0_1 : Int32) (x0_3 : Int32) (x0_4 : Int32) : evS B d 122 24 [(0, .ref 92), (1, .int x0_1), (3, .int x0_3), (4, .int x0_4)] [] h = if x0_3 ≤ x0_4 then some (.inl none, h) else ob (rAt h 104 x0_4) (fun x1 => if x1 = (20 : Int32) then kV (mS B (d - 1) 123 [.ref 92, .int x0_1, .int x0_4] h) (fun h2 => evS B d 122 24 [(0, .ref 92), (1, .int x0_1), (3, .int x0_3), (4, .int (x0_4 + (6 : Int32)))] [] h2) else if x1 = (21 : Int32) then ob (rAt h 104 (x0_4 + (1 : Int32))) (fun x3 => ob (rAt h 104 (x0_4 + (2 : Int32))) (fun x4 => kI (mS B (d - 1) 125 [.ref 92, .int x0_1, .int x3, .int x4] h) (fun x6 h5 => ob (rAdd h5 140 (sF h5 92 24)) (fun q7 => kI (mS B (d - 1) 148 [.ref 107, .int (sF q7.2 92 24), .int (x6 ^^^ (1 : Int32))] q7.2) (fun x9 h8 => ob (rAdd h8 140 x9) (fun q10 => kI (mS B (d - 1) 148 [.ref 107, .int (sF q10.2 92 24), .int x6] q10.2) (fun x12 h11 => evS B d 122 24 [(0, .ref 92), (1, .int x0_1), (3, .int x0_3), (4, .int (x0_4 + (3 : Int32)))] [] (uF h11 92 24 x12)))))))) else if x1 = (22 : Int32) then ob (rTop h 140) (fun x13 => evS B d 122 24 [(0, .ref 92), (1, .int x0_1), (3, .int x0_3), (4, .int (x0_4 + (1 : Int32)))] [] (uF h 92 24 x13)) else if x1 = (23 : Int32) then evS B d 122 381 [(0, .ref 92), (1, .int x0_1), (3, .int x0_3), (4, .int x0_4), (5, .int x1)] [] h else if x1 = (24 : Int32) then ob (rAdd h 140 (sF h 92 24)) (fun q14 => ob (rAdd q14.2 140 (sF q14.2 92 24)) (fun q15 => kV (mS B (d - 1) 154 [.ref 112] q15.2) (fun h16 => ob (rAt h16 104 (x0_4 + (1 : Int32))) (fun x17 => ob (rAt h16 104 (x0_4 + (2 : Int32))) (fun x18 => kV (mS B (d - 1) 119 [.ref 92, .int x0_1, .int x17, .int x18] h16) (fun h19 => evS B d 122 282 [(0, .ref 92), (1, .int x0_1), (3, .int x0_3), (4, .int x0_4), (6, .int (0 : Int32))] [] h19)))))) else if x1 = (25 : Int32) then kI (mS B (d - 1) 126 [.ref 92, .int x0_4] h) (fun x21 h20 => evS B d 122 24 [(0, .ref 92), (1, .int x0_1), (3, .int x0_3), (4, .int x21)] [] h20) else if x1 = (26 : Int32) then evS B d 122 24 [(0, .ref 92), (1, .int x0_1), (3, .int x0_3), (4, .int (x0_4 + (1 : Int32)))] [] h else if x1 = (27 : Int32) then ob (rTop h 140) (fun x22 => evS B d 122 24 [(0, .ref 92), (1, .int x0_1), (3, .int x0_3), (4, .int (x0_4 + (1 : Int32)))] [] (uF h 92 24 x22)) else evS B d 122 381 [(0, .ref 92), (1, .int x0_1), (3, .int x0_3), (4, .int x0_4), (5, .int x1)] [] h) := by
  obtain ⟨d, rfl⟩ : ∃ e, d = e + 4 := ⟨d - 4, by omega⟩
  refine (es_st 2 (pc' := 27) (L' := [(0, .ref 92), (1, .int x0_1), (3, .int x0_3), (4, .int x0_4)]) (S' := [.int x0_3, .int x0_4]) (h' := h) rfl).trans ?_
  refine (is_ge (t := 439) rfl rfl rfl).trans (if_cg ?_ ?_)
  · exact es_fin rfl rfl rfl
  · refine (es_st 4 (pc' := 39) (L' := [(0, .ref 92), (1, .int x0_1), (3, .int x0_3), (4, .int x0_4)]) (S' := [.int x0_4, .ref 104]) (h' := h) rfl).trans ?_
    refine (es_ob (o := rAt h 104 x0_4) (pc' := 42) (L' := [(0, .ref 92), (1, .int x0_1), (3, .int x0_3), (4, .int x0_4)]) (S' := fun z => [.int z]) (h' := fun z => h) rfl rfl rfl).trans (ob_cg fun x1 => ?_)
    refine (es_st 2 (pc' := 46) (L' := [(5, .int x1), (0, .ref 92), (1, .int x0_1), (3, .int x0_3), (4, .int x0_4)]) (S' := [.int x1]) (h' := h) rfl).trans ?_
    refine (es_sw (a := x1) (cs := [((20 : Int32), 92), ((21 : Int32), 105), ((22 : Int32), 198), ((23 : Int32), 381), ((24 : Int32), 215), ((25 : Int32), 347), ((26 : Int32), 358), ((27 : Int32), 364)]) (df := 381) (L' := [(5, .int x1), (0, .ref 92), (1, .int x0_1), (3, .int x0_3), (4, .int x0_4)]) (S' := []) rfl rfl rfl).trans ?_
    refine ss_cons.trans (if_cg ?_ ?_)
    · refine (es_st 3 (pc' := 96) (L' := [(5, .int x1), (0, .ref 92), (1, .int x0_1), (3, .int x0_3), (4, .int x0_4)]) (S' := [.int x0_4, .int x0_1, .ref 92]) (h' := h) rfl).trans ?_
      refine (es_cV (b := true) (k' := 123) (pc' := 99) (as := [.ref 92, .int x0_1, .int x0_4]) (S' := []) (L' := [(5, .int x1), (0, .ref 92), (1, .int x0_1), (3, .int x0_3), (4, .int x0_4)]) (h' := h) rfl rfl rfl rfl rfl).trans (kV_cg fun h2 => ?_)
      refine (es_st 3 (pc' := 24) (L' := [(4, .int (x0_4 + (6 : Int32))), (5, .int x1), (0, .ref 92), (1, .int x0_1), (3, .int x0_3)]) (S' := []) (h' := h2) rfl).trans ?_
      exact es_cut rfl rfl rfl
    · refine ss_cons.trans (if_cg ?_ ?_)
      · refine (es_st 8 (pc' := 118) (L' := [(5, .int x1), (0, .ref 92), (1, .int x0_1), (3, .int x0_3), (4, .int x0_4)]) (S' := [.int (x0_4 + (1 : Int32)), .ref 104, .int x0_1, .ref 92]) (h' := h) rfl).trans ?_
        refine (es_ob (o := rAt h 104 (x0_4 + (1 : Int32))) (pc' := 121) (L' := [(5, .int x1), (0, .ref 92), (1, .int x0_1), (3, .int x0_3), (4, .int x0_4)]) (S' := fun z => [.int z, .int x0_1, .ref 92]) (h' := fun z => h) rfl rfl rfl).trans (ob_cg fun x3 => ?_)
        refine (es_st 6 (pc' := 132) (L' := [(5, .int x1), (0, .ref 92), (1, .int x0_1), (3, .int x0_3), (4, .int x0_4)]) (S' := [.int (x0_4 + (2 : Int32)), .ref 104, .int x3, .int x0_1, .ref 92]) (h' := h) rfl).trans ?_
        refine (es_ob (o := rAt h 104 (x0_4 + (2 : Int32))) (pc' := 135) (L' := [(5, .int x1), (0, .ref 92), (1, .int x0_1), (3, .int x0_3), (4, .int x0_4)]) (S' := fun z => [.int z, .int x3, .int x0_1, .ref 92]) (h' := fun z => h) rfl rfl rfl).trans (ob_cg fun x4 => ?_)
        refine (es_cI (b := true) (k' := 125) (pc' := 138) (as := [.ref 92, .int x0_1, .int x3, .int x4]) (S' := []) (L' := [(5, .int x1), (0, .ref 92), (1, .int x0_1), (3, .int x0_3), (4, .int x0_4)]) (h' := h) rfl rfl rfl rfl rfl).trans (kI_cg fun x6 h5 => ?_)
        refine (es_st 5 (pc' := 148) (L' := [(6, .int x6), (5, .int x1), (0, .ref 92), (1, .int x0_1), (3, .int x0_3), (4, .int x0_4)]) (S' := [.int (sF h5 92 24), .ref 140]) (h' := h5) rfl).trans ?_
        refine (es_ob (o := rAdd h5 140 (sF h5 92 24)) (pc' := 151) (L' := [(6, .int x6), (5, .int x1), (0, .ref 92), (1, .int x0_1), (3, .int x0_3), (4, .int x0_4)]) (S' := fun z => [.int z.1]) (h' := fun z => z.2) rfl rfl rfl).trans (ob_cg fun q7 => ?_)
        refine (es_st 10 (pc' := 168) (L' := [(6, .int x6), (5, .int x1), (0, .ref 92), (1, .int x0_1), (3, .int x0_3), (4, .int x0_4)]) (S' := [.int (x6 ^^^ (1 : Int32)), .int (sF q7.2 92 24), .ref 107, .ref 140]) (h' := q7.2) rfl).trans ?_
        refine (es_cI (b := true) (k' := 148) (pc' := 171) (as := [.ref 107, .int (sF q7.2 92 24), .int (x6 ^^^ (1 : Int32))]) (S' := [.ref 140]) (L' := [(6, .int x6), (5, .int x1), (0, .ref 92), (1, .int x0_1), (3, .int x0_3), (4, .int x0_4)]) (h' := q7.2) rfl rfl rfl rfl rfl).trans (kI_cg fun x9 h8 => ?_)
        refine (es_ob (o := rAdd h8 140 x9) (pc' := 174) (L' := [(6, .int x6), (5, .int x1), (0, .ref 92), (1, .int x0_1), (3, .int x0_3), (4, .int x0_4)]) (S' := fun z => [.int z.1]) (h' := fun z => z.2) rfl rfl rfl).trans (ob_cg fun q10 => ?_)
        refine (es_st 7 (pc' := 186) (L' := [(6, .int x6), (5, .int x1), (0, .ref 92), (1, .int x0_1), (3, .int x0_3), (4, .int x0_4)]) (S' := [.int x6, .int (sF q10.2 92 24), .ref 107, .ref 92]) (h' := q10.2) rfl).trans ?_
        refine (es_cI (b := true) (k' := 148) (pc' := 189) (as := [.ref 107, .int (sF q10.2 92 24), .int x6]) (S' := [.ref 92]) (L' := [(6, .int x6), (5, .int x1), (0, .ref 92), (1, .int x0_1), (3, .int x0_3), (4, .int x0_4)]) (h' := q10.2) rfl rfl rfl rfl rfl).trans (kI_cg fun x12 h11 => ?_)
        refine (es_st 4 (pc' := 24) (L' := [(4, .int (x0_4 + (3 : Int32))), (6, .int x6), (5, .int x1), (0, .ref 92), (1, .int x0_1), (3, .int x0_3)]) (S' := []) (h' := (uF h11 92 24 x12)) rfl).trans ?_
        exact es_cut rfl rfl rfl
      · refine ss_cons.trans (if_cg ?_ ?_)
        · refine (es_st 3 (pc' := 203) (L' := [(5, .int x1), (0, .ref 92), (1, .int x0_1), (3, .int x0_3), (4, .int x0_4)]) (S' := [.ref 140, .ref 92]) (h' := h) rfl).trans ?_
          refine (es_ob (o := rTop h 140) (pc' := 206) (L' := [(5, .int x1), (0, .ref 92), (1, .int x0_1), (3, .int x0_3), (4, .int x0_4)]) (S' := fun z => [.int z, .ref 92]) (h' := fun z => h) rfl rfl rfl).trans (ob_cg fun x13 => ?_)
          refine (es_st 4 (pc' := 24) (L' := [(4, .int (x0_4 + (1 : Int32))), (5, .int x1), (0, .ref 92), (1, .int x0_1), (3, .int x0_3)]) (S' := []) (h' := (uF h 92 24 x13)) rfl).trans ?_
          exact es_cut rfl rfl rfl
        · refine ss_cons.trans (if_cg ?_ ?_)
          · exact es_cut rfl rfl rfl
          · refine ss_cons.trans (if_cg ?_ ?_)
            · refine (es_st 4 (pc' := 223) (L' := [(5, .int x1), (0, .ref 92), (1, .int x0_1), (3, .int x0_3), (4, .int x0_4)]) (S' := [.int (sF h 92 24), .ref 140]) (h' := h) rfl).trans ?_
              refine (es_ob (o := rAdd h 140 (sF h 92 24)) (pc' := 226) (L' := [(5, .int x1), (0, .ref 92), (1, .int x0_1), (3, .int x0_3), (4, .int x0_4)]) (S' := fun z => [.int z.1]) (h' := fun z => z.2) rfl rfl rfl).trans (ob_cg fun q14 => ?_)
              refine (es_st 5 (pc' := 235) (L' := [(5, .int x1), (0, .ref 92), (1, .int x0_1), (3, .int x0_3), (4, .int x0_4)]) (S' := [.int (sF q14.2 92 24), .ref 140]) (h' := q14.2) rfl).trans ?_
              refine (es_ob (o := rAdd q14.2 140 (sF q14.2 92 24)) (pc' := 238) (L' := [(5, .int x1), (0, .ref 92), (1, .int x0_1), (3, .int x0_3), (4, .int x0_4)]) (S' := fun z => [.int z.1]) (h' := fun z => z.2) rfl rfl rfl).trans (ob_cg fun q15 => ?_)
              refine (es_st 3 (pc' := 243) (L' := [(5, .int x1), (0, .ref 92), (1, .int x0_1), (3, .int x0_3), (4, .int x0_4)]) (S' := [.ref 112]) (h' := q15.2) rfl).trans ?_
              refine (es_cV (b := true) (k' := 154) (pc' := 246) (as := [.ref 112]) (S' := []) (L' := [(5, .int x1), (0, .ref 92), (1, .int x0_1), (3, .int x0_3), (4, .int x0_4)]) (h' := q15.2) rfl rfl rfl rfl rfl).trans (kV_cg fun h16 => ?_)
              refine (es_st 8 (pc' := 259) (L' := [(5, .int x1), (0, .ref 92), (1, .int x0_1), (3, .int x0_3), (4, .int x0_4)]) (S' := [.int (x0_4 + (1 : Int32)), .ref 104, .int x0_1, .ref 92]) (h' := h16) rfl).trans ?_
              refine (es_ob (o := rAt h16 104 (x0_4 + (1 : Int32))) (pc' := 262) (L' := [(5, .int x1), (0, .ref 92), (1, .int x0_1), (3, .int x0_3), (4, .int x0_4)]) (S' := fun z => [.int z, .int x0_1, .ref 92]) (h' := fun z => h16) rfl rfl rfl).trans (ob_cg fun x17 => ?_)
              refine (es_st 6 (pc' := 273) (L' := [(5, .int x1), (0, .ref 92), (1, .int x0_1), (3, .int x0_3), (4, .int x0_4)]) (S' := [.int (x0_4 + (2 : Int32)), .ref 104, .int x17, .int x0_1, .ref 92]) (h' := h16) rfl).trans ?_
              refine (es_ob (o := rAt h16 104 (x0_4 + (2 : Int32))) (pc' := 276) (L' := [(5, .int x1), (0, .ref 92), (1, .int x0_1), (3, .int x0_3), (4, .int x0_4)]) (S' := fun z => [.int z, .int x17, .int x0_1, .ref 92]) (h' := fun z => h16) rfl rfl rfl).trans (ob_cg fun x18 => ?_)
              refine (es_cV (b := true) (k' := 119) (pc' := 279) (as := [.ref 92, .int x0_1, .int x17, .int x18]) (S' := []) (L' := [(5, .int x1), (0, .ref 92), (1, .int x0_1), (3, .int x0_3), (4, .int x0_4)]) (h' := h16) rfl rfl rfl rfl rfl).trans (kV_cg fun h19 => ?_)
              refine (es_st 2 (pc' := 282) (L' := [(6, .int (0 : Int32)), (5, .int x1), (0, .ref 92), (1, .int x0_1), (3, .int x0_3), (4, .int x0_4)]) (S' := []) (h' := h19) rfl).trans ?_
              exact es_cut rfl rfl rfl
            · refine ss_cons.trans (if_cg ?_ ?_)
              · refine (es_st 2 (pc' := 350) (L' := [(5, .int x1), (0, .ref 92), (1, .int x0_1), (3, .int x0_3), (4, .int x0_4)]) (S' := [.int x0_4, .ref 92]) (h' := h) rfl).trans ?_
                refine (es_cI (b := true) (k' := 126) (pc' := 353) (as := [.ref 92, .int x0_4]) (S' := []) (L' := [(5, .int x1), (0, .ref 92), (1, .int x0_1), (3, .int x0_3), (4, .int x0_4)]) (h' := h) rfl rfl rfl rfl rfl).trans (kI_cg fun x21 h20 => ?_)
                refine (es_st 3 (pc' := 24) (L' := [(4, .int x21), (5, .int x1), (0, .ref 92), (1, .int x0_1), (3, .int x0_3)]) (S' := []) (h' := h20) rfl).trans ?_
                exact es_cut rfl rfl rfl
              · refine ss_cons.trans (if_cg ?_ ?_)
                · refine (es_st 3 (pc' := 24) (L' := [(4, .int (x0_4 + (1 : Int32))), (5, .int x1), (0, .ref 92), (1, .int x0_1), (3, .int x0_3)]) (S' := []) (h' := h) rfl).trans ?_
                  exact es_cut rfl rfl rfl
                · refine ss_cons.trans (if_cg ?_ ?_)
                  · refine (es_st 3 (pc' := 369) (L' := [(5, .int x1), (0, .ref 92), (1, .int x0_1), (3, .int x0_3), (4, .int x0_4)]) (S' := [.ref 140, .ref 92]) (h' := h) rfl).trans ?_
                    refine (es_ob (o := rTop h 140) (pc' := 372) (L' := [(5, .int x1), (0, .ref 92), (1, .int x0_1), (3, .int x0_3), (4, .int x0_4)]) (S' := fun z => [.int z, .ref 92]) (h' := fun z => h) rfl rfl rfl).trans (ob_cg fun x22 => ?_)
                    refine (es_st 4 (pc' := 24) (L' := [(4, .int (x0_4 + (1 : Int32))), (5, .int x1), (0, .ref 92), (1, .int x0_1), (3, .int x0_3)]) (S' := []) (h' := (uF h 92 24 x22)) rfl).trans ?_
                    exact es_cut rfl rfl rfl
                  · exact es_cut rfl rfl rfl
theorem sX5_acts_282 (B : Bool) (d : Nat) (hd : 4 ≤ d) (h : SG) (x0_1 : Int32) (x0_3 : Int32) (x0_4 : Int32) (x0_6 : Int32) : evS B d 122 282 [(0, .ref 92), (1, .int x0_1), (3, .int x0_3), (4, .int x0_4), (6, .int x0_6)] [] h = if (Int32.ofNat (sW h 113).length) ≤ x0_6 then ob (rAdd h 142 (Int32.ofNat (sW h 113).length)) (fun q1 => evS B d 122 24 [(0, .ref 92), (1, .int x0_1), (3, .int x0_3), (4, .int (x0_4 + (3 : Int32)))] [] q1.2) else ob (rAt h 113 x0_6) (fun x2 => ob (rAdd h 142 x2) (fun q3 => evS B d 122 282 [(0, .ref 92), (1, .int x0_1), (3, .int x0_3), (4, .int x0_4), (6, .int (x0_6 + (1 : Int32)))] [] q3.2)) := by
  obtain ⟨d, rfl⟩ : ∃ e, d = e + 4 := ⟨d - 4, by omega⟩
  refine (es_st 5 (pc' := 294) (L' := [(0, .ref 92), (1, .int x0_1), (3, .int x0_3), (4, .int x0_4), (6, .int x0_6)]) (S' := [.int (Int32.ofNat (sW h 113).length), .int x0_6]) (h' := h) rfl).trans ?_
  refine (is_ge (t := 323) rfl rfl rfl).trans (if_cg ?_ ?_)
  · refine (es_st 6 (pc' := 337) (L' := [(0, .ref 92), (1, .int x0_1), (3, .int x0_3), (4, .int x0_4), (6, .int x0_6)]) (S' := [.int (Int32.ofNat (sW h 113).length), .ref 142]) (h' := h) rfl).trans ?_
    refine (es_ob (o := rAdd h 142 (Int32.ofNat (sW h 113).length)) (pc' := 340) (L' := [(0, .ref 92), (1, .int x0_1), (3, .int x0_3), (4, .int x0_4), (6, .int x0_6)]) (S' := fun z => [.int z.1]) (h' := fun z => z.2) rfl rfl rfl).trans (ob_cg fun q1 => ?_)
    refine (es_st 4 (pc' := 24) (L' := [(4, .int (x0_4 + (3 : Int32))), (0, .ref 92), (1, .int x0_1), (3, .int x0_3), (6, .int x0_6)]) (S' := []) (h' := q1.2) rfl).trans ?_
    exact es_cut rfl rfl rfl
  · refine (es_st 6 (pc' := 310) (L' := [(0, .ref 92), (1, .int x0_1), (3, .int x0_3), (4, .int x0_4), (6, .int x0_6)]) (S' := [.int x0_6, .ref 113, .ref 142]) (h' := h) rfl).trans ?_
    refine (es_ob (o := rAt h 113 x0_6) (pc' := 313) (L' := [(0, .ref 92), (1, .int x0_1), (3, .int x0_3), (4, .int x0_4), (6, .int x0_6)]) (S' := fun z => [.int z, .ref 142]) (h' := fun z => h) rfl rfl rfl).trans (ob_cg fun x2 => ?_)
    refine (es_ob (o := rAdd h 142 x2) (pc' := 316) (L' := [(0, .ref 92), (1, .int x0_1), (3, .int x0_3), (4, .int x0_4), (6, .int x0_6)]) (S' := fun z => [.int z.1]) (h' := fun z => z.2) rfl rfl rfl).trans (ob_cg fun q3 => ?_)
    refine (es_st 3 (pc' := 282) (L' := [(6, .int (x0_6 + (1 : Int32))), (0, .ref 92), (1, .int x0_1), (3, .int x0_3), (4, .int x0_4)]) (S' := []) (h' := q3.2) rfl).trans ?_
    exact es_cut rfl rfl rfl
theorem sX5_acts_381 (B : Bool) (d : Nat) (hd : 4 ≤ d) (h : SG) (x0_1 : Int32) (x0_3 : Int32) (x0_4 : Int32) (x0_5 : Int32) : evS B d 122 381 [(0, .ref 92), (1, .int x0_1), (3, .int x0_3), (4, .int x0_4), (5, .int x0_5)] [] h = if x0_5 = (28 : Int32) then ob (rTop h 142) (fun x1 => ob (pSz h 142 ((Int32.ofNat (sW h 142).length) - (x1 + (1 : Int32)))) (fun h2 => evS B d 122 409 [(0, .ref 92), (1, .int x0_1), (3, .int x0_3), (4, .int x0_4)] [] h2)) else evS B d 122 409 [(0, .ref 92), (1, .int x0_1), (3, .int x0_3), (4, .int x0_4)] [] h := by
  obtain ⟨d, rfl⟩ : ∃ e, d = e + 4 := ⟨d - 4, by omega⟩
  refine (es_st 2 (pc' := 385) (L' := [(0, .ref 92), (1, .int x0_1), (3, .int x0_3), (4, .int x0_4), (5, .int x0_5)]) (S' := [.int (28 : Int32), .int x0_5]) (h' := h) rfl).trans ?_
  refine (is_ne (t := 409) rfl rfl rfl).trans (if_cg ?_ ?_)
  · refine (es_st 6 (pc' := 400) (L' := [(0, .ref 92), (1, .int x0_1), (3, .int x0_3), (4, .int x0_4), (5, .int x0_5)]) (S' := [.ref 142, .int (Int32.ofNat (sW h 142).length), .ref 142]) (h' := h) rfl).trans ?_
    refine (es_ob (o := rTop h 142) (pc' := 403) (L' := [(0, .ref 92), (1, .int x0_1), (3, .int x0_3), (4, .int x0_4), (5, .int x0_5)]) (S' := fun z => [.int z, .int (Int32.ofNat (sW h 142).length), .ref 142]) (h' := fun z => h) rfl rfl rfl).trans (ob_cg fun x1 => ?_)
    refine (es_st 3 (pc' := 406) (L' := [(0, .ref 92), (1, .int x0_1), (3, .int x0_3), (4, .int x0_4), (5, .int x0_5)]) (S' := [.int ((Int32.ofNat (sW h 142).length) - (x1 + (1 : Int32))), .ref 142]) (h' := h) rfl).trans ?_
    refine (es_ob (o := pSz h 142 ((Int32.ofNat (sW h 142).length) - (x1 + (1 : Int32)))) (pc' := 409) (L' := [(0, .ref 92), (1, .int x0_1), (3, .int x0_3), (4, .int x0_4), (5, .int x0_5)]) (S' := fun z => []) (h' := fun z => z) rfl rfl rfl).trans (ob_cg fun h2 => ?_)
    exact es_cut rfl rfl rfl
  · exact es_cut rfl rfl rfl
theorem sX5_acts_409 (B : Bool) (d : Nat) (hd : 4 ≤ d) (h : SG) (x0_1 : Int32) (x0_3 : Int32) (x0_4 : Int32) : evS B d 122 409 [(0, .ref 92), (1, .int x0_1), (3, .int x0_3), (4, .int x0_4)] [] h = ob (pSz h 140 ((Int32.ofNat (sW h 140).length) - (1 : Int32))) (fun h1 => ob (rTake h1 140) (fun q2 => evS B d 122 24 [(0, .ref 92), (1, .int x0_1), (3, .int x0_3), (4, .int (x0_4 + (1 : Int32)))] [] (uF q2.2 92 24 q2.1))) := by
  obtain ⟨d, rfl⟩ : ∃ e, d = e + 4 := ⟨d - 4, by omega⟩
  refine (es_st 6 (pc' := 419) (L' := [(0, .ref 92), (1, .int x0_1), (3, .int x0_3), (4, .int x0_4)]) (S' := [.int ((Int32.ofNat (sW h 140).length) - (1 : Int32)), .ref 140]) (h' := h) rfl).trans ?_
  refine (es_ob (o := pSz h 140 ((Int32.ofNat (sW h 140).length) - (1 : Int32))) (pc' := 422) (L' := [(0, .ref 92), (1, .int x0_1), (3, .int x0_3), (4, .int x0_4)]) (S' := fun z => []) (h' := fun z => z) rfl rfl rfl).trans (ob_cg fun h1 => ?_)
  refine (es_st 3 (pc' := 427) (L' := [(0, .ref 92), (1, .int x0_1), (3, .int x0_3), (4, .int x0_4)]) (S' := [.ref 140, .ref 92]) (h' := h1) rfl).trans ?_
  refine (es_ob (o := rTake h1 140) (pc' := 430) (L' := [(0, .ref 92), (1, .int x0_1), (3, .int x0_3), (4, .int x0_4)]) (S' := fun z => [.int z.1, .ref 92]) (h' := fun z => z.2) rfl rfl rfl).trans (ob_cg fun q2 => ?_)
  refine (es_st 3 (pc' := 24) (L' := [(4, .int (x0_4 + (1 : Int32))), (0, .ref 92), (1, .int x0_1), (3, .int x0_3)]) (S' := []) (h' := (uF q2.2 92 24 q2.1)) rfl).trans ?_
  exact es_cut rfl rfl rfl
theorem sX5_set_0 (B : Bool) (d : Nat) (hd : 4 ≤ d) (h : SG) (x0_1 : Int32) (x0_2 : Int32) : mS B d 123 [.ref 92, .int x0_1, .int x0_2] h = ob (rAt h 104 (x0_2 + (1 : Int32))) (fun x1 => kI (mS B (d - 1) 109 [.ref 92, .int x0_1, .int x1] h) (fun x3 h2 => ob (rAt h2 104 (x0_2 + (2 : Int32))) (fun x4 => ob (rAt h2 104 (x0_2 + (3 : Int32))) (fun x5 => kV (mS B (d - 1) 154 [.ref 112] h2) (fun h6 => ob (rAt h6 104 (x0_2 + (4 : Int32))) (fun x7 => ob (rAt h6 104 (x0_2 + (5 : Int32))) (fun x8 => kV (mS B (d - 1) 119 [.ref 92, .int x0_1, .int x7, .int x8] h6) (fun h9 => kI (mS B (d - 1) 116 [.ref 92, .int x3] h9) (fun x11 h10 => ob (rAt h10 121 x11) (fun x12 => kI (mS B (d - 1) 124 [.ref 92, .int (x12 / (2 : Int32))] h10) (fun x14 h13 => evS B d 123 113 [(0, .ref 92), (4, .int x4), (5, .int x5), (6, .int (x14 + x5)), (7, .int (0 : Int32))] [] h13))))))))))) := by
  obtain ⟨d, rfl⟩ : ∃ e, d = e + 4 := ⟨d - 4, by omega⟩
  show evS B (d + 4) 123 0 [(0, .ref 92), (1, .int x0_1), (2, .int x0_2)] [] h = _
  refine (es_st 8 (pc' := 12) (L' := [(0, .ref 92), (1, .int x0_1), (2, .int x0_2)]) (S' := [.int (x0_2 + (1 : Int32)), .ref 104, .int x0_1, .ref 92]) (h' := h) rfl).trans ?_
  refine (es_ob (o := rAt h 104 (x0_2 + (1 : Int32))) (pc' := 15) (L' := [(0, .ref 92), (1, .int x0_1), (2, .int x0_2)]) (S' := fun z => [.int z, .int x0_1, .ref 92]) (h' := fun z => h) rfl rfl rfl).trans (ob_cg fun x1 => ?_)
  refine (es_cI (b := true) (k' := 109) (pc' := 18) (as := [.ref 92, .int x0_1, .int x1]) (S' := []) (L' := [(0, .ref 92), (1, .int x0_1), (2, .int x0_2)]) (h' := h) rfl rfl rfl rfl rfl).trans (kI_cg fun x3 h2 => ?_)
  refine (es_st 7 (pc' := 29) (L' := [(3, .int x3), (0, .ref 92), (1, .int x0_1), (2, .int x0_2)]) (S' := [.int (x0_2 + (2 : Int32)), .ref 104]) (h' := h2) rfl).trans ?_
  refine (es_ob (o := rAt h2 104 (x0_2 + (2 : Int32))) (pc' := 32) (L' := [(3, .int x3), (0, .ref 92), (1, .int x0_1), (2, .int x0_2)]) (S' := fun z => [.int z]) (h' := fun z => h2) rfl rfl rfl).trans (ob_cg fun x4 => ?_)
  refine (es_st 7 (pc' := 44) (L' := [(4, .int x4), (3, .int x3), (0, .ref 92), (1, .int x0_1), (2, .int x0_2)]) (S' := [.int (x0_2 + (3 : Int32)), .ref 104]) (h' := h2) rfl).trans ?_
  refine (es_ob (o := rAt h2 104 (x0_2 + (3 : Int32))) (pc' := 47) (L' := [(4, .int x4), (3, .int x3), (0, .ref 92), (1, .int x0_1), (2, .int x0_2)]) (S' := fun z => [.int z]) (h' := fun z => h2) rfl rfl rfl).trans (ob_cg fun x5 => ?_)
  refine (es_st 3 (pc' := 53) (L' := [(5, .int x5), (4, .int x4), (3, .int x3), (0, .ref 92), (1, .int x0_1), (2, .int x0_2)]) (S' := [.ref 112]) (h' := h2) rfl).trans ?_
  refine (es_cV (b := true) (k' := 154) (pc' := 56) (as := [.ref 112]) (S' := []) (L' := [(5, .int x5), (4, .int x4), (3, .int x3), (0, .ref 92), (1, .int x0_1), (2, .int x0_2)]) (h' := h2) rfl rfl rfl rfl rfl).trans (kV_cg fun h6 => ?_)
  refine (es_st 8 (pc' := 68) (L' := [(5, .int x5), (4, .int x4), (3, .int x3), (0, .ref 92), (1, .int x0_1), (2, .int x0_2)]) (S' := [.int (x0_2 + (4 : Int32)), .ref 104, .int x0_1, .ref 92]) (h' := h6) rfl).trans ?_
  refine (es_ob (o := rAt h6 104 (x0_2 + (4 : Int32))) (pc' := 71) (L' := [(5, .int x5), (4, .int x4), (3, .int x3), (0, .ref 92), (1, .int x0_1), (2, .int x0_2)]) (S' := fun z => [.int z, .int x0_1, .ref 92]) (h' := fun z => h6) rfl rfl rfl).trans (ob_cg fun x7 => ?_)
  refine (es_st 6 (pc' := 81) (L' := [(5, .int x5), (4, .int x4), (3, .int x3), (0, .ref 92), (1, .int x0_1), (2, .int x0_2)]) (S' := [.int (x0_2 + (5 : Int32)), .ref 104, .int x7, .int x0_1, .ref 92]) (h' := h6) rfl).trans ?_
  refine (es_ob (o := rAt h6 104 (x0_2 + (5 : Int32))) (pc' := 84) (L' := [(5, .int x5), (4, .int x4), (3, .int x3), (0, .ref 92), (1, .int x0_1), (2, .int x0_2)]) (S' := fun z => [.int z, .int x7, .int x0_1, .ref 92]) (h' := fun z => h6) rfl rfl rfl).trans (ob_cg fun x8 => ?_)
  refine (es_cV (b := true) (k' := 119) (pc' := 87) (as := [.ref 92, .int x0_1, .int x7, .int x8]) (S' := []) (L' := [(5, .int x5), (4, .int x4), (3, .int x3), (0, .ref 92), (1, .int x0_1), (2, .int x0_2)]) (h' := h6) rfl rfl rfl rfl rfl).trans (kV_cg fun h9 => ?_)
  refine (es_st 5 (pc' := 94) (L' := [(5, .int x5), (4, .int x4), (3, .int x3), (0, .ref 92), (1, .int x0_1), (2, .int x0_2)]) (S' := [.int x3, .ref 92, .ref 121, .ref 92]) (h' := h9) rfl).trans ?_
  refine (es_cI (b := true) (k' := 116) (pc' := 97) (as := [.ref 92, .int x3]) (S' := [.ref 121, .ref 92]) (L' := [(5, .int x5), (4, .int x4), (3, .int x3), (0, .ref 92), (1, .int x0_1), (2, .int x0_2)]) (h' := h9) rfl rfl rfl rfl rfl).trans (kI_cg fun x11 h10 => ?_)
  refine (es_ob (o := rAt h10 121 x11) (pc' := 100) (L' := [(5, .int x5), (4, .int x4), (3, .int x3), (0, .ref 92), (1, .int x0_1), (2, .int x0_2)]) (S' := fun z => [.int z, .ref 92]) (h' := fun z => h10) rfl rfl rfl).trans (ob_cg fun x12 => ?_)
  refine (es_st 2 (pc' := 102) (L' := [(5, .int x5), (4, .int x4), (3, .int x3), (0, .ref 92), (1, .int x0_1), (2, .int x0_2)]) (S' := [.int (x12 / (2 : Int32)), .ref 92]) (h' := h10) rfl).trans ?_
  refine (es_cI (b := true) (k' := 124) (pc' := 105) (as := [.ref 92, .int (x12 / (2 : Int32))]) (S' := []) (L' := [(5, .int x5), (4, .int x4), (3, .int x3), (0, .ref 92), (1, .int x0_1), (2, .int x0_2)]) (h' := h10) rfl rfl rfl rfl rfl).trans (kI_cg fun x14 h13 => ?_)
  refine (es_st 5 (pc' := 113) (L' := [(7, .int (0 : Int32)), (6, .int (x14 + x5)), (5, .int x5), (4, .int x4), (3, .int x3), (0, .ref 92), (1, .int x0_1), (2, .int x0_2)]) (S' := []) (h' := h13) rfl).trans ?_
  exact es_cut rfl rfl rfl
theorem sX5_set_113 (B : Bool) (d : Nat) (hd : 4 ≤ d) (h : SG) (x0_4 : Int32) (x0_5 : Int32) (x0_6 : Int32) (x0_7 : Int32) : evS B d 123 113 [(0, .ref 92), (4, .int x0_4), (5, .int x0_5), (6, .int x0_6), (7, .int x0_7)] [] h = if (x0_4 - x0_5) < x0_7 then some (.inl none, h) else ob (rAt h 113 x0_7) (fun x1 => ob (rAt h 133 (x0_6 + x0_7)) (fun x2 => kI (mS B (d - 1) 147 [.ref 107, .int (sF h 92 24), .int x1, .int x2] h) (fun x4 h3 => ob (rSet h3 133 (x0_6 + x0_7) x4) (fun h5 => evS B d 123 113 [(0, .ref 92), (4, .int x0_4), (5, .int x0_5), (6, .int x0_6), (7, .int (x0_7 + (1 : Int32)))] [] h5)))) := by
  obtain ⟨d, rfl⟩ : ∃ e, d = e + 4 := ⟨d - 4, by omega⟩
  refine (es_st 4 (pc' := 120) (L' := [(0, .ref 92), (4, .int x0_4), (5, .int x0_5), (6, .int x0_6), (7, .int x0_7)]) (S' := [.int (x0_4 - x0_5), .int x0_7]) (h' := h) rfl).trans ?_
  refine (is_gt (t := 176) rfl rfl rfl).trans (if_cg ?_ ?_)
  · exact es_fin rfl rfl rfl
  · refine (es_st 13 (pc' := 149) (L' := [(0, .ref 92), (4, .int x0_4), (5, .int x0_5), (6, .int x0_6), (7, .int x0_7)]) (S' := [.int x0_7, .ref 113, .int (sF h 92 24), .ref 107, .int (x0_6 + x0_7), .ref 133]) (h' := h) rfl).trans ?_
    refine (es_ob (o := rAt h 113 x0_7) (pc' := 152) (L' := [(0, .ref 92), (4, .int x0_4), (5, .int x0_5), (6, .int x0_6), (7, .int x0_7)]) (S' := fun z => [.int z, .int (sF h 92 24), .ref 107, .int (x0_6 + x0_7), .ref 133]) (h' := fun z => h) rfl rfl rfl).trans (ob_cg fun x1 => ?_)
    refine (es_st 5 (pc' := 161) (L' := [(0, .ref 92), (4, .int x0_4), (5, .int x0_5), (6, .int x0_6), (7, .int x0_7)]) (S' := [.int (x0_6 + x0_7), .ref 133, .int x1, .int (sF h 92 24), .ref 107, .int (x0_6 + x0_7), .ref 133]) (h' := h) rfl).trans ?_
    refine (es_ob (o := rAt h 133 (x0_6 + x0_7)) (pc' := 164) (L' := [(0, .ref 92), (4, .int x0_4), (5, .int x0_5), (6, .int x0_6), (7, .int x0_7)]) (S' := fun z => [.int z, .int x1, .int (sF h 92 24), .ref 107, .int (x0_6 + x0_7), .ref 133]) (h' := fun z => h) rfl rfl rfl).trans (ob_cg fun x2 => ?_)
    refine (es_cI (b := true) (k' := 147) (pc' := 167) (as := [.ref 107, .int (sF h 92 24), .int x1, .int x2]) (S' := [.int (x0_6 + x0_7), .ref 133]) (L' := [(0, .ref 92), (4, .int x0_4), (5, .int x0_5), (6, .int x0_6), (7, .int x0_7)]) (h' := h) rfl rfl rfl rfl rfl).trans (kI_cg fun x4 h3 => ?_)
    refine (es_ob (o := rSet h3 133 (x0_6 + x0_7) x4) (pc' := 170) (L' := [(0, .ref 92), (4, .int x0_4), (5, .int x0_5), (6, .int x0_6), (7, .int x0_7)]) (S' := fun z => []) (h' := fun z => z) rfl rfl rfl).trans (ob_cg fun h5 => ?_)
    refine (es_st 2 (pc' := 113) (L' := [(7, .int (x0_7 + (1 : Int32))), (0, .ref 92), (4, .int x0_4), (5, .int x0_5), (6, .int x0_6)]) (S' := []) (h' := h5) rfl).trans ?_
    exact es_cut rfl rfl rfl
theorem sX5_stateOf_0 (B : Bool) (d : Nat) (hd : 4 ≤ d) (h : SG) (x0_1 : Int32) : mS B d 124 [.ref 92, .int x0_1] h = evS B d 124 2 [(0, .ref 92), (1, .int x0_1), (2, .int (0 : Int32))] [] h := by
  obtain ⟨d, rfl⟩ : ∃ e, d = e + 4 := ⟨d - 4, by omega⟩
  show evS B (d + 4) 124 0 [(0, .ref 92), (1, .int x0_1)] [] h = _
  refine (es_st 2 (pc' := 2) (L' := [(2, .int (0 : Int32)), (0, .ref 92), (1, .int x0_1)]) (S' := []) (h' := h) rfl).trans ?_
  exact es_cut rfl rfl rfl
theorem sX5_stateOf_2 (B : Bool) (d : Nat) (hd : 4 ≤ d) (h : SG) (x0_1 : Int32) (x0_2 : Int32) : evS B d 124 2 [(0, .ref 92), (1, .int x0_1), (2, .int x0_2)] [] h = ob (rAt h 131 x0_2) (fun x1 => if x1 = x0_1 then some (.inl (some (.int x0_2)), h) else evS B d 124 2 [(0, .ref 92), (1, .int x0_1), (2, .int (x0_2 + (1 : Int32)))] [] h) := by
  obtain ⟨d, rfl⟩ : ∃ e, d = e + 4 := ⟨d - 4, by omega⟩
  refine (es_st 3 (pc' := 7) (L' := [(0, .ref 92), (1, .int x0_1), (2, .int x0_2)]) (S' := [.int x0_2, .ref 131]) (h' := h) rfl).trans ?_
  refine (es_ob (o := rAt h 131 x0_2) (pc' := 10) (L' := [(0, .ref 92), (1, .int x0_1), (2, .int x0_2)]) (S' := fun z => [.int z]) (h' := fun z => h) rfl rfl rfl).trans (ob_cg fun x1 => ?_)
  refine (es_st 1 (pc' := 11) (L' := [(0, .ref 92), (1, .int x0_1), (2, .int x0_2)]) (S' := [.int x0_1, .int x1]) (h' := h) rfl).trans ?_
  refine (is_eq (t := 20) rfl rfl rfl).trans (if_cg ?_ ?_)
  · refine (es_st 1 (pc' := 21) (L' := [(0, .ref 92), (1, .int x0_1), (2, .int x0_2)]) (S' := [.int x0_2]) (h' := h) rfl).trans ?_
    exact es_fin rfl rfl rfl
  · refine (es_st 2 (pc' := 2) (L' := [(2, .int (x0_2 + (1 : Int32))), (0, .ref 92), (1, .int x0_1)]) (S' := []) (h' := h) rfl).trans ?_
    exact es_cut rfl rfl rfl
theorem sX5_truth_0 (B : Bool) (d : Nat) (hd : 1 ≤ d) (h : SG) (x0_1 : Int32) (x0_2 : Int32) (x0_3 : Int32) : mS B d 125 [.ref 92, .int x0_1, .int x0_2, .int x0_3] h = kV (mS B (d - 1) 154 [.ref 112] h) (fun h1 => kV (mS B (d - 1) 119 [.ref 92, .int x0_1, .int x0_2, .int x0_3] h1) (fun h2 => kI (mS B (d - 1) 163 [.ref 112] h2) (fun x4 h3 => some (.inl (some (.int x4)), h3)))) := by
  obtain ⟨d, rfl⟩ : ∃ e, d = e + 1 := ⟨d - 1, by omega⟩
  show evS B (d + 1) 125 0 [(0, .ref 92), (1, .int x0_1), (2, .int x0_2), (3, .int x0_3)] [] h = _
  refine (es_st 2 (pc' := 4) (L' := [(0, .ref 92), (1, .int x0_1), (2, .int x0_2), (3, .int x0_3)]) (S' := [.ref 112]) (h' := h) rfl).trans ?_
  refine (es_cV (b := true) (k' := 154) (pc' := 7) (as := [.ref 112]) (S' := []) (L' := [(0, .ref 92), (1, .int x0_1), (2, .int x0_2), (3, .int x0_3)]) (h' := h) rfl rfl rfl rfl rfl).trans (kV_cg fun h1 => ?_)
  refine (es_st 4 (pc' := 11) (L' := [(0, .ref 92), (1, .int x0_1), (2, .int x0_2), (3, .int x0_3)]) (S' := [.int x0_3, .int x0_2, .int x0_1, .ref 92]) (h' := h1) rfl).trans ?_
  refine (es_cV (b := true) (k' := 119) (pc' := 14) (as := [.ref 92, .int x0_1, .int x0_2, .int x0_3]) (S' := []) (L' := [(0, .ref 92), (1, .int x0_1), (2, .int x0_2), (3, .int x0_3)]) (h' := h1) rfl rfl rfl rfl rfl).trans (kV_cg fun h2 => ?_)
  refine (es_st 2 (pc' := 18) (L' := [(0, .ref 92), (1, .int x0_1), (2, .int x0_2), (3, .int x0_3)]) (S' := [.ref 112]) (h' := h2) rfl).trans ?_
  refine (es_cI (b := true) (k' := 163) (pc' := 21) (as := [.ref 112]) (S' := []) (L' := [(0, .ref 92), (1, .int x0_1), (2, .int x0_2), (3, .int x0_3)]) (h' := h2) rfl rfl rfl rfl rfl).trans (kI_cg fun x4 h3 => ?_)
  exact es_fin rfl rfl rfl
theorem sX5_labels_0 (B : Bool) (d : Nat) (hd : 4 ≤ d) (h : SG) (x0_1 : Int32) : mS B d 126 [.ref 92, .int x0_1] h = ob (rAt h 104 (x0_1 + (1 : Int32))) (fun x1 => ob (rTop h 142) (fun x2 => evS B d 126 41 [(0, .ref 92), (1, .int x0_1), (2, .int x1), (3, .int x2), (4, .int (((Int32.ofNat (sW h 142).length) - (1 : Int32)) - x2)), (5, .int (0 : Int32)), (6, .int (0 : Int32))] [] h)) := by
  obtain ⟨d, rfl⟩ : ∃ e, d = e + 4 := ⟨d - 4, by omega⟩
  show evS B (d + 4) 126 0 [(0, .ref 92), (1, .int x0_1)] [] h = _
  refine (es_st 6 (pc' := 10) (L' := [(0, .ref 92), (1, .int x0_1)]) (S' := [.int (x0_1 + (1 : Int32)), .ref 104]) (h' := h) rfl).trans ?_
  refine (es_ob (o := rAt h 104 (x0_1 + (1 : Int32))) (pc' := 13) (L' := [(0, .ref 92), (1, .int x0_1)]) (S' := fun z => [.int z]) (h' := fun z => h) rfl rfl rfl).trans (ob_cg fun x1 => ?_)
  refine (es_st 3 (pc' := 18) (L' := [(2, .int x1), (0, .ref 92), (1, .int x0_1)]) (S' := [.ref 142]) (h' := h) rfl).trans ?_
  refine (es_ob (o := rTop h 142) (pc' := 21) (L' := [(2, .int x1), (0, .ref 92), (1, .int x0_1)]) (S' := fun z => [.int z]) (h' := fun z => h) rfl rfl rfl).trans (ob_cg fun x2 => ?_)
  refine (es_st 13 (pc' := 41) (L' := [(6, .int (0 : Int32)), (5, .int (0 : Int32)), (4, .int (((Int32.ofNat (sW h 142).length) - (1 : Int32)) - x2)), (3, .int x2), (2, .int x1), (0, .ref 92), (1, .int x0_1)]) (S' := []) (h' := h) rfl).trans ?_
  exact es_cut rfl rfl rfl
theorem sX5_labels_41 (B : Bool) (d : Nat) (hd : 4 ≤ d) (h : SG) (x0_1 : Int32) (x0_2 : Int32) (x0_3 : Int32) (x0_4 : Int32) (x0_5 : Int32) (x0_6 : Int32) : evS B d 126 41 [(0, .ref 92), (1, .int x0_1), (2, .int x0_2), (3, .int x0_3), (4, .int x0_4), (5, .int x0_5), (6, .int x0_6)] [] h = if x0_2 ≤ x0_6 then ob (rTake h 140) (fun q1 => kI (mS B (d - 1) 148 [.ref 107, .int q1.1, .int x0_5] q1.2) (fun x3 h2 => kI (mS B (d - 1) 148 [.ref 107, .int q1.1, .int (x0_5 ^^^ (1 : Int32))] (uF h2 92 24 x3)) (fun x5 h4 => ob (rAdd h4 140 x5) (fun q6 => some (.inl (some (.int ((x0_1 + (2 : Int32)) + ((2 : Int32) * x0_2)))), q6.2))))) else ob (rAt h 104 ((x0_1 + (2 : Int32)) + ((2 : Int32) * x0_6))) (fun x7 => ob (rAt h 104 ((x0_1 + (3 : Int32)) + ((2 : Int32) * x0_6))) (fun x8 => evS B d 126 101 [(0, .ref 92), (1, .int x0_1), (2, .int x0_2), (3, .int x0_3), (4, .int x0_4), (5, .int x0_5), (6, .int x0_6), (7, .long ((x7.toInt64 &&& (4294967295 : Int64)) ||| (x8.toInt64 <<< ((32 : Int32).toInt64 &&& 63)))), (9, .int (1 : Int32)), (10, .int (0 : Int32))] [] h)) := by
  obtain ⟨d, rfl⟩ : ∃ e, d = e + 4 := ⟨d - 4, by omega⟩
  refine (es_st 2 (pc' := 44) (L' := [(0, .ref 92), (1, .int x0_1), (2, .int x0_2), (3, .int x0_3), (4, .int x0_4), (5, .int x0_5), (6, .int x0_6)]) (S' := [.int x0_2, .int x0_6]) (h' := h) rfl).trans ?_
  refine (is_ge (t := 166) rfl rfl rfl).trans (if_cg ?_ ?_)
  · refine (es_st 2 (pc' := 170) (L' := [(0, .ref 92), (1, .int x0_1), (2, .int x0_2), (3, .int x0_3), (4, .int x0_4), (5, .int x0_5), (6, .int x0_6)]) (S' := [.ref 140]) (h' := h) rfl).trans ?_
    refine (es_ob (o := rTake h 140) (pc' := 173) (L' := [(0, .ref 92), (1, .int x0_1), (2, .int x0_2), (3, .int x0_3), (4, .int x0_4), (5, .int x0_5), (6, .int x0_6)]) (S' := fun z => [.int z.1]) (h' := fun z => z.2) rfl rfl rfl).trans (ob_cg fun q1 => ?_)
    refine (es_st 6 (pc' := 184) (L' := [(6, .int q1.1), (0, .ref 92), (1, .int x0_1), (2, .int x0_2), (3, .int x0_3), (4, .int x0_4), (5, .int x0_5)]) (S' := [.int x0_5, .int q1.1, .ref 107, .ref 92]) (h' := q1.2) rfl).trans ?_
    refine (es_cI (b := true) (k' := 148) (pc' := 187) (as := [.ref 107, .int q1.1, .int x0_5]) (S' := [.ref 92]) (L' := [(6, .int q1.1), (0, .ref 92), (1, .int x0_1), (2, .int x0_2), (3, .int x0_3), (4, .int x0_4), (5, .int x0_5)]) (h' := q1.2) rfl rfl rfl rfl rfl).trans (kI_cg fun x3 h2 => ?_)
    refine (es_st 9 (pc' := 204) (L' := [(6, .int q1.1), (0, .ref 92), (1, .int x0_1), (2, .int x0_2), (3, .int x0_3), (4, .int x0_4), (5, .int x0_5)]) (S' := [.int (x0_5 ^^^ (1 : Int32)), .int q1.1, .ref 107, .ref 140]) (h' := (uF h2 92 24 x3)) rfl).trans ?_
    refine (es_cI (b := true) (k' := 148) (pc' := 207) (as := [.ref 107, .int q1.1, .int (x0_5 ^^^ (1 : Int32))]) (S' := [.ref 140]) (L' := [(6, .int q1.1), (0, .ref 92), (1, .int x0_1), (2, .int x0_2), (3, .int x0_3), (4, .int x0_4), (5, .int x0_5)]) (h' := (uF h2 92 24 x3)) rfl rfl rfl rfl rfl).trans (kI_cg fun x5 h4 => ?_)
    refine (es_ob (o := rAdd h4 140 x5) (pc' := 210) (L' := [(6, .int q1.1), (0, .ref 92), (1, .int x0_1), (2, .int x0_2), (3, .int x0_3), (4, .int x0_4), (5, .int x0_5)]) (S' := fun z => [.int z.1]) (h' := fun z => z.2) rfl rfl rfl).trans (ob_cg fun q6 => ?_)
    refine (es_st 8 (pc' := 218) (L' := [(6, .int q1.1), (0, .ref 92), (1, .int x0_1), (2, .int x0_2), (3, .int x0_3), (4, .int x0_4), (5, .int x0_5)]) (S' := [.int ((x0_1 + (2 : Int32)) + ((2 : Int32) * x0_2))]) (h' := q6.2) rfl).trans ?_
    exact es_fin rfl rfl rfl
  · refine (es_st 10 (pc' := 62) (L' := [(0, .ref 92), (1, .int x0_1), (2, .int x0_2), (3, .int x0_3), (4, .int x0_4), (5, .int x0_5), (6, .int x0_6)]) (S' := [.int ((x0_1 + (2 : Int32)) + ((2 : Int32) * x0_6)), .ref 104]) (h' := h) rfl).trans ?_
    refine (es_ob (o := rAt h 104 ((x0_1 + (2 : Int32)) + ((2 : Int32) * x0_6))) (pc' := 65) (L' := [(0, .ref 92), (1, .int x0_1), (2, .int x0_2), (3, .int x0_3), (4, .int x0_4), (5, .int x0_5), (6, .int x0_6)]) (S' := fun z => [.int z]) (h' := fun z => h) rfl rfl rfl).trans (ob_cg fun x7 => ?_)
    refine (es_st 13 (pc' := 85) (L' := [(0, .ref 92), (1, .int x0_1), (2, .int x0_2), (3, .int x0_3), (4, .int x0_4), (5, .int x0_5), (6, .int x0_6)]) (S' := [.int ((x0_1 + (3 : Int32)) + ((2 : Int32) * x0_6)), .ref 104, .long (x7.toInt64 &&& (4294967295 : Int64))]) (h' := h) rfl).trans ?_
    refine (es_ob (o := rAt h 104 ((x0_1 + (3 : Int32)) + ((2 : Int32) * x0_6))) (pc' := 88) (L' := [(0, .ref 92), (1, .int x0_1), (2, .int x0_2), (3, .int x0_3), (4, .int x0_4), (5, .int x0_5), (6, .int x0_6)]) (S' := fun z => [.int z, .long (x7.toInt64 &&& (4294967295 : Int64))]) (h' := fun z => h) rfl rfl rfl).trans (ob_cg fun x8 => ?_)
    refine (es_st 9 (pc' := 101) (L' := [(10, .int (0 : Int32)), (9, .int (1 : Int32)), (7, .long ((x7.toInt64 &&& (4294967295 : Int64)) ||| (x8.toInt64 <<< ((32 : Int32).toInt64 &&& 63)))), (0, .ref 92), (1, .int x0_1), (2, .int x0_2), (3, .int x0_3), (4, .int x0_4), (5, .int x0_5), (6, .int x0_6)]) (S' := []) (h' := h) rfl).trans ?_
    exact es_cut rfl rfl rfl
theorem sX5_labels_101 (B : Bool) (d : Nat) (hd : 4 ≤ d) (h : SG) (x0_1 : Int32) (x0_2 : Int32) (x0_3 : Int32) (x0_4 : Int32) (x0_5 : Int32) (x0_6 : Int32) (y0_7 : Int64) (x0_9 : Int32) (x0_10 : Int32) : evS B d 126 101 [(0, .ref 92), (1, .int x0_1), (2, .int x0_2), (3, .int x0_3), (4, .int x0_4), (5, .int x0_5), (6, .int x0_6), (7, .long y0_7), (9, .int x0_9), (10, .int x0_10)] [] h = if x0_3 ≤ x0_10 then kI (mS B (d - 1) 150 [.ref 107, .int x0_5, .int x0_9] h) (fun x2 h1 => evS B d 126 41 [(0, .ref 92), (1, .int x0_1), (2, .int x0_2), (3, .int x0_3), (4, .int x0_4), (5, .int x2), (6, .int (x0_6 + (1 : Int32)))] [] h1) else ob (rAt h 142 (x0_4 + x0_10)) (fun x3 => kI (mS B (d - 1) 148 [.ref 107, .int x0_9, .int ((x3 ^^^ (1 : Int32)) ^^^ ((lus y0_7 x0_10) &&& (1 : Int64)).toInt32)] h) (fun x5 h4 => evS B d 126 101 [(0, .ref 92), (1, .int x0_1), (2, .int x0_2), (3, .int x0_3), (4, .int x0_4), (5, .int x0_5), (6, .int x0_6), (7, .long y0_7), (9, .int x5), (10, .int (x0_10 + (1 : Int32)))] [] h4)) := by
  obtain ⟨d, rfl⟩ : ∃ e, d = e + 4 := ⟨d - 4, by omega⟩
  refine (es_st 2 (pc' := 104) (L' := [(0, .ref 92), (1, .int x0_1), (2, .int x0_2), (3, .int x0_3), (4, .int x0_4), (5, .int x0_5), (6, .int x0_6), (7, .long y0_7), (9, .int x0_9), (10, .int x0_10)]) (S' := [.int x0_3, .int x0_10]) (h' := h) rfl).trans ?_
  refine (is_ge (t := 147) rfl rfl rfl).trans (if_cg ?_ ?_)
  · refine (es_st 4 (pc' := 155) (L' := [(0, .ref 92), (1, .int x0_1), (2, .int x0_2), (3, .int x0_3), (4, .int x0_4), (5, .int x0_5), (6, .int x0_6), (7, .long y0_7), (9, .int x0_9), (10, .int x0_10)]) (S' := [.int x0_9, .int x0_5, .ref 107]) (h' := h) rfl).trans ?_
    refine (es_cI (b := true) (k' := 150) (pc' := 158) (as := [.ref 107, .int x0_5, .int x0_9]) (S' := []) (L' := [(0, .ref 92), (1, .int x0_1), (2, .int x0_2), (3, .int x0_3), (4, .int x0_4), (5, .int x0_5), (6, .int x0_6), (7, .long y0_7), (9, .int x0_9), (10, .int x0_10)]) (h' := h) rfl rfl rfl rfl rfl).trans (kI_cg fun x2 h1 => ?_)
    refine (es_st 3 (pc' := 41) (L' := [(6, .int (x0_6 + (1 : Int32))), (5, .int x2), (0, .ref 92), (1, .int x0_1), (2, .int x0_2), (3, .int x0_3), (4, .int x0_4), (7, .long y0_7), (9, .int x0_9), (10, .int x0_10)]) (S' := []) (h' := h1) rfl).trans ?_
    exact es_cut rfl rfl rfl
  · refine (es_st 8 (pc' := 122) (L' := [(0, .ref 92), (1, .int x0_1), (2, .int x0_2), (3, .int x0_3), (4, .int x0_4), (5, .int x0_5), (6, .int x0_6), (7, .long y0_7), (9, .int x0_9), (10, .int x0_10)]) (S' := [.int (x0_4 + x0_10), .ref 142, .int x0_9, .ref 107]) (h' := h) rfl).trans ?_
    refine (es_ob (o := rAt h 142 (x0_4 + x0_10)) (pc' := 125) (L' := [(0, .ref 92), (1, .int x0_1), (2, .int x0_2), (3, .int x0_3), (4, .int x0_4), (5, .int x0_5), (6, .int x0_6), (7, .long y0_7), (9, .int x0_9), (10, .int x0_10)]) (S' := fun z => [.int z, .int x0_9, .ref 107]) (h' := fun z => h) rfl rfl rfl).trans (ob_cg fun x3 => ?_)
    refine (es_st 9 (pc' := 136) (L' := [(0, .ref 92), (1, .int x0_1), (2, .int x0_2), (3, .int x0_3), (4, .int x0_4), (5, .int x0_5), (6, .int x0_6), (7, .long y0_7), (9, .int x0_9), (10, .int x0_10)]) (S' := [.int ((x3 ^^^ (1 : Int32)) ^^^ ((lus y0_7 x0_10) &&& (1 : Int64)).toInt32), .int x0_9, .ref 107]) (h' := h) rfl).trans ?_
    refine (es_cI (b := true) (k' := 148) (pc' := 139) (as := [.ref 107, .int x0_9, .int ((x3 ^^^ (1 : Int32)) ^^^ ((lus y0_7 x0_10) &&& (1 : Int64)).toInt32)]) (S' := []) (L' := [(0, .ref 92), (1, .int x0_1), (2, .int x0_2), (3, .int x0_3), (4, .int x0_4), (5, .int x0_5), (6, .int x0_6), (7, .long y0_7), (9, .int x0_9), (10, .int x0_10)]) (h' := h) rfl rfl rfl rfl rfl).trans (kI_cg fun x5 h4 => ?_)
    refine (es_st 3 (pc' := 101) (L' := [(10, .int (x0_10 + (1 : Int32))), (9, .int x5), (0, .ref 92), (1, .int x0_1), (2, .int x0_2), (3, .int x0_3), (4, .int x0_4), (5, .int x0_5), (6, .int x0_6), (7, .long y0_7)]) (S' := []) (h' := h4) rfl).trans ?_
    exact es_cut rfl rfl rfl
theorem sX5_findA_0 (B : Bool) (d : Nat) (hd : 4 ≤ d) (h : SG) (x0_2 : Int32) : mS B d 127 [.ref 40, .ref 30, .int x0_2] h = evS B d 127 8 [(0, .ref 40), (1, .ref 30), (2, .int x0_2), (3, .int (0 : Int32)), (4, .int (0 : Int32)), (5, .int (0 : Int32))] [] h := by
  obtain ⟨d, rfl⟩ : ∃ e, d = e + 4 := ⟨d - 4, by omega⟩
  show evS B (d + 4) 127 0 [(0, .ref 40), (1, .ref 30), (2, .int x0_2)] [] h = _
  refine (es_st 6 (pc' := 8) (L' := [(5, .int (0 : Int32)), (4, .int (0 : Int32)), (3, .int (0 : Int32)), (0, .ref 40), (1, .ref 30), (2, .int x0_2)]) (S' := []) (h' := h) rfl).trans ?_
  exact es_cut rfl rfl rfl
theorem sX5_findA_8 (B : Bool) (d : Nat) (hd : 4 ≤ d) (h : SG) (x0_2 : Int32) (x0_3 : Int32) (x0_4 : Int32) (x0_5 : Int32) : evS B d 127 8 [(0, .ref 40), (1, .ref 30), (2, .int x0_2), (3, .int x0_3), (4, .int x0_4), (5, .int x0_5)] [] h = if x0_2 < x0_5 then some (.inl (some (.int (-1 : Int32))), h) else if x0_2 ≤ x0_5 then evS B d 127 32 [(0, .ref 40), (1, .ref 30), (2, .int x0_2), (3, .int x0_3), (4, .int x0_4), (5, .int x0_5)] [] h else if ixN x0_5 65536 = true then if (sF h 30 x0_5.toNatClampNeg) = (46 : Int32) then evS B d 127 32 [(0, .ref 40), (1, .ref 30), (2, .int x0_2), (3, .int x0_3), (4, .int x0_4), (5, .int x0_5)] [] h else evS B d 127 8 [(0, .ref 40), (1, .ref 30), (2, .int x0_2), (3, .int x0_3), (4, .int x0_4), (5, .int (x0_5 + (1 : Int32)))] [] h else none := by
  obtain ⟨d, rfl⟩ : ∃ e, d = e + 4 := ⟨d - 4, by omega⟩
  refine (es_st 2 (pc' := 11) (L' := [(0, .ref 40), (1, .ref 30), (2, .int x0_2), (3, .int x0_3), (4, .int x0_4), (5, .int x0_5)]) (S' := [.int x0_2, .int x0_5]) (h' := h) rfl).trans ?_
  refine (is_gt (t := 186) rfl rfl rfl).trans (if_cg ?_ ?_)
  · refine (es_st 1 (pc' := 187) (L' := [(0, .ref 40), (1, .ref 30), (2, .int x0_2), (3, .int x0_3), (4, .int x0_4), (5, .int x0_5)]) (S' := [.int (-1 : Int32)]) (h' := h) rfl).trans ?_
    exact es_fin rfl rfl rfl
  · refine (es_st 2 (pc' := 17) (L' := [(0, .ref 40), (1, .ref 30), (2, .int x0_2), (3, .int x0_3), (4, .int x0_4), (5, .int x0_5)]) (S' := [.int x0_2, .int x0_5]) (h' := h) rfl).trans ?_
    refine (is_ge (t := 32) rfl rfl rfl).trans (if_cg ?_ ?_)
    · exact es_cut rfl rfl rfl
    · refine (es_st 2 (pc' := 23) (L' := [(0, .ref 40), (1, .ref 30), (2, .int x0_2), (3, .int x0_3), (4, .int x0_4), (5, .int x0_5)]) (S' := [.int x0_5, .ref 30]) (h' := h) rfl).trans ?_
      refine (es_ix (c := ixN x0_5 65536 = true) (x := (sF h 30 x0_5.toNatClampNeg)) (pc' := 24) (L' := [(0, .ref 40), (1, .ref 30), (2, .int x0_2), (3, .int x0_3), (4, .int x0_4), (5, .int x0_5)]) (S' := fun z => [.int z]) (h' := fun z => h) rfl rfl rfl).trans (if_cgn ?_)
      refine (es_st 1 (pc' := 26) (L' := [(0, .ref 40), (1, .ref 30), (2, .int x0_2), (3, .int x0_3), (4, .int x0_4), (5, .int x0_5)]) (S' := [.int (46 : Int32), .int (sF h 30 x0_5.toNatClampNeg)]) (h' := h) rfl).trans ?_
      refine (is_eq (t := 32) rfl rfl rfl).trans (if_cg ?_ ?_)
      · exact es_cut rfl rfl rfl
      · refine (es_st 3 (pc' := 8) (L' := [(5, .int (x0_5 + (1 : Int32))), (0, .ref 40), (1, .ref 30), (2, .int x0_2), (3, .int x0_3), (4, .int x0_4)]) (S' := []) (h' := h) rfl).trans ?_
        exact es_cut rfl rfl rfl
theorem sX5_findA_32 (B : Bool) (d : Nat) (hd : 4 ≤ d) (h : SG) (x0_2 : Int32) (x0_3 : Int32) (x0_4 : Int32) (x0_5 : Int32) : evS B d 127 32 [(0, .ref 40), (1, .ref 30), (2, .int x0_2), (3, .int x0_3), (4, .int x0_4), (5, .int x0_5)] [] h = ob (rAt h 65 ((4 : Int32) * x0_3)) (fun x1 => kI (mS B (d - 1) 133 [.ref 41, .int x1, .ref 30, .int x0_4, .int (x0_5 - x0_4)] h) (fun x3 h2 => if x3 = (-1 : Int32) then some (.inl (some (.int (-1 : Int32))), h2) else kI (mS B (d - 1) 138 [.ref 41, .int x3] h2) (fun x5 h4 => if x5 = (5 : Int32) then if x0_2 ≤ x0_5 then evS B d 127 94 [(0, .ref 40), (1, .ref 30), (2, .int x0_2), (3, .int x0_3), (5, .int x0_5), (6, .int x3)] [.int (0 : Int32), .int (1 : Int32)] h4 else evS B d 127 94 [(0, .ref 40), (1, .ref 30), (2, .int x0_2), (3, .int x0_3), (5, .int x0_5), (6, .int x3)] [.int (1 : Int32), .int (1 : Int32)] h4 else if x0_2 ≤ x0_5 then evS B d 127 94 [(0, .ref 40), (1, .ref 30), (2, .int x0_2), (3, .int x0_3), (5, .int x0_5), (6, .int x3)] [.int (0 : Int32), .int (0 : Int32)] h4 else evS B d 127 94 [(0, .ref 40), (1, .ref 30), (2, .int x0_2), (3, .int x0_3), (5, .int x0_5), (6, .int x3)] [.int (1 : Int32), .int (0 : Int32)] h4))) := by
  obtain ⟨d, rfl⟩ : ∃ e, d = e + 4 := ⟨d - 4, by omega⟩
  refine (es_st 7 (pc' := 43) (L' := [(0, .ref 40), (1, .ref 30), (2, .int x0_2), (3, .int x0_3), (4, .int x0_4), (5, .int x0_5)]) (S' := [.int ((4 : Int32) * x0_3), .ref 65, .ref 41]) (h' := h) rfl).trans ?_
  refine (es_ob (o := rAt h 65 ((4 : Int32) * x0_3)) (pc' := 46) (L' := [(0, .ref 40), (1, .ref 30), (2, .int x0_2), (3, .int x0_3), (4, .int x0_4), (5, .int x0_5)]) (S' := fun z => [.int z, .ref 41]) (h' := fun z => h) rfl rfl rfl).trans (ob_cg fun x1 => ?_)
  refine (es_st 5 (pc' := 54) (L' := [(0, .ref 40), (1, .ref 30), (2, .int x0_2), (3, .int x0_3), (4, .int x0_4), (5, .int x0_5)]) (S' := [.int (x0_5 - x0_4), .int x0_4, .ref 30, .int x1, .ref 41]) (h' := h) rfl).trans ?_
  refine (es_cI (b := true) (k' := 133) (pc' := 57) (as := [.ref 41, .int x1, .ref 30, .int x0_4, .int (x0_5 - x0_4)]) (S' := []) (L' := [(0, .ref 40), (1, .ref 30), (2, .int x0_2), (3, .int x0_3), (4, .int x0_4), (5, .int x0_5)]) (h' := h) rfl rfl rfl rfl rfl).trans (kI_cg fun x3 h2 => ?_)
  refine (es_st 3 (pc' := 62) (L' := [(6, .int x3), (0, .ref 40), (1, .ref 30), (2, .int x0_2), (3, .int x0_3), (4, .int x0_4), (5, .int x0_5)]) (S' := [.int (-1 : Int32), .int x3]) (h' := h2) rfl).trans ?_
  refine (is_eq (t := 97) rfl rfl rfl).trans (if_cg ?_ ?_)
  · refine (es_st 1 (pc' := 98) (L' := [(6, .int x3), (0, .ref 40), (1, .ref 30), (2, .int x0_2), (3, .int x0_3), (4, .int x0_4), (5, .int x0_5)]) (S' := [.int (-1 : Int32)]) (h' := h2) rfl).trans ?_
    exact es_fin rfl rfl rfl
  · refine (es_st 3 (pc' := 71) (L' := [(6, .int x3), (0, .ref 40), (1, .ref 30), (2, .int x0_2), (3, .int x0_3), (4, .int x0_4), (5, .int x0_5)]) (S' := [.int x3, .ref 41]) (h' := h2) rfl).trans ?_
    refine (es_cI (b := true) (k' := 138) (pc' := 74) (as := [.ref 41, .int x3]) (S' := []) (L' := [(6, .int x3), (0, .ref 40), (1, .ref 30), (2, .int x0_2), (3, .int x0_3), (4, .int x0_4), (5, .int x0_5)]) (h' := h2) rfl rfl rfl rfl rfl).trans (kI_cg fun x5 h4 => ?_)
    refine (es_st 1 (pc' := 75) (L' := [(6, .int x3), (0, .ref 40), (1, .ref 30), (2, .int x0_2), (3, .int x0_3), (4, .int x0_4), (5, .int x0_5)]) (S' := [.int (5 : Int32), .int x5]) (h' := h4) rfl).trans ?_
    refine (is_ne (t := 82) rfl rfl rfl).trans (if_cg ?_ ?_)
    · refine (es_st 4 (pc' := 86) (L' := [(6, .int x3), (0, .ref 40), (1, .ref 30), (2, .int x0_2), (3, .int x0_3), (4, .int x0_4), (5, .int x0_5)]) (S' := [.int x0_2, .int x0_5, .int (1 : Int32)]) (h' := h4) rfl).trans ?_
      refine (is_ge (t := 93) rfl rfl rfl).trans (if_cg ?_ ?_)
      · refine (es_st 1 (pc' := 94) (L' := [(6, .int x3), (0, .ref 40), (1, .ref 30), (2, .int x0_2), (3, .int x0_3), (4, .int x0_4), (5, .int x0_5)]) (S' := [.int (0 : Int32), .int (1 : Int32)]) (h' := h4) rfl).trans ?_
        exact es_cut rfl rfl rfl
      · refine (es_st 2 (pc' := 94) (L' := [(6, .int x3), (0, .ref 40), (1, .ref 30), (2, .int x0_2), (3, .int x0_3), (4, .int x0_4), (5, .int x0_5)]) (S' := [.int (1 : Int32), .int (1 : Int32)]) (h' := h4) rfl).trans ?_
        exact es_cut rfl rfl rfl
    · refine (es_st 3 (pc' := 86) (L' := [(6, .int x3), (0, .ref 40), (1, .ref 30), (2, .int x0_2), (3, .int x0_3), (4, .int x0_4), (5, .int x0_5)]) (S' := [.int x0_2, .int x0_5, .int (0 : Int32)]) (h' := h4) rfl).trans ?_
      refine (is_ge (t := 93) rfl rfl rfl).trans (if_cg ?_ ?_)
      · refine (es_st 1 (pc' := 94) (L' := [(6, .int x3), (0, .ref 40), (1, .ref 30), (2, .int x0_2), (3, .int x0_3), (4, .int x0_4), (5, .int x0_5)]) (S' := [.int (0 : Int32), .int (0 : Int32)]) (h' := h4) rfl).trans ?_
        exact es_cut rfl rfl rfl
      · refine (es_st 2 (pc' := 94) (L' := [(6, .int x3), (0, .ref 40), (1, .ref 30), (2, .int x0_2), (3, .int x0_3), (4, .int x0_4), (5, .int x0_5)]) (S' := [.int (1 : Int32), .int (0 : Int32)]) (h' := h4) rfl).trans ?_
        exact es_cut rfl rfl rfl
theorem sX5_findA_94 (B : Bool) (d : Nat) (hd : 4 ≤ d) (h : SG) (x0_2 : Int32) (x0_3 : Int32) (x0_5 : Int32) (x0_6 : Int32) (s0 : Int32) (s1 : Int32) : evS B d 127 94 [(0, .ref 40), (1, .ref 30), (2, .int x0_2), (3, .int x0_3), (5, .int x0_5), (6, .int x0_6)] [.int s0, .int s1] h = if s1 = s0 then if x0_5 = x0_2 then kI (mS B (d - 1) 109 [.ref 40, .int x0_3, .int x0_6] h) (fun x2 h1 => some (.inl (some (.int x2)), h1)) else evS B d 127 116 [(0, .ref 40), (1, .ref 30), (2, .int x0_2), (3, .int x0_3), (5, .int x0_5), (6, .int x0_6), (7, .int (1 : Int32))] [] h else some (.inl (some (.int (-1 : Int32))), h) := by
  obtain ⟨d, rfl⟩ : ∃ e, d = e + 4 := ⟨d - 4, by omega⟩
  refine (is_eq (t := 99) rfl rfl rfl).trans (if_cg ?_ ?_)
  · refine (es_st 2 (pc' := 102) (L' := [(0, .ref 40), (1, .ref 30), (2, .int x0_2), (3, .int x0_3), (5, .int x0_5), (6, .int x0_6)]) (S' := [.int x0_2, .int x0_5]) (h' := h) rfl).trans ?_
    refine (is_ne (t := 113) rfl rfl rfl).trans (if_cg ?_ ?_)
    · refine (es_st 3 (pc' := 109) (L' := [(0, .ref 40), (1, .ref 30), (2, .int x0_2), (3, .int x0_3), (5, .int x0_5), (6, .int x0_6)]) (S' := [.int x0_6, .int x0_3, .ref 40]) (h' := h) rfl).trans ?_
      refine (es_cI (b := true) (k' := 109) (pc' := 112) (as := [.ref 40, .int x0_3, .int x0_6]) (S' := []) (L' := [(0, .ref 40), (1, .ref 30), (2, .int x0_2), (3, .int x0_3), (5, .int x0_5), (6, .int x0_6)]) (h' := h) rfl rfl rfl rfl rfl).trans (kI_cg fun x2 h1 => ?_)
      exact es_fin rfl rfl rfl
    · refine (es_st 2 (pc' := 116) (L' := [(7, .int (1 : Int32)), (0, .ref 40), (1, .ref 30), (2, .int x0_2), (3, .int x0_3), (5, .int x0_5), (6, .int x0_6)]) (S' := []) (h' := h) rfl).trans ?_
      exact es_cut rfl rfl rfl
  · refine (es_st 1 (pc' := 98) (L' := [(0, .ref 40), (1, .ref 30), (2, .int x0_2), (3, .int x0_3), (5, .int x0_5), (6, .int x0_6)]) (S' := [.int (-1 : Int32)]) (h' := h) rfl).trans ?_
    exact es_fin rfl rfl rfl
theorem sX5_findA_116 (B : Bool) (d : Nat) (hd : 4 ≤ d) (h : SG) (x0_2 : Int32) (x0_3 : Int32) (x0_5 : Int32) (x0_6 : Int32) (x0_7 : Int32) : evS B d 127 116 [(0, .ref 40), (1, .ref 30), (2, .int x0_2), (3, .int x0_3), (5, .int x0_5), (6, .int x0_6), (7, .int x0_7)] [] h = ob (rAt h 65 (((4 : Int32) * x0_7) + (1 : Int32))) (fun x1 => if x1 = x0_3 then ob (rAt h 65 (((4 : Int32) * x0_7) + (2 : Int32))) (fun x2 => ob (rAt h 46 (((4 : Int32) * x2) + (1 : Int32))) (fun x3 => if x3 = x0_6 then evS B d 127 8 [(0, .ref 40), (1, .ref 30), (2, .int x0_2), (3, .int x0_7), (4, .int (x0_5 + (1 : Int32))), (5, .int (x0_5 + (1 : Int32)))] [] h else evS B d 127 116 [(0, .ref 40), (1, .ref 30), (2, .int x0_2), (3, .int x0_3), (5, .int x0_5), (6, .int x0_6), (7, .int (x0_7 + (1 : Int32)))] [] h)) else evS B d 127 116 [(0, .ref 40), (1, .ref 30), (2, .int x0_2), (3, .int x0_3), (5, .int x0_5), (6, .int x0_6), (7, .int (x0_7 + (1 : Int32)))] [] h) := by
  obtain ⟨d, rfl⟩ : ∃ e, d = e + 4 := ⟨d - 4, by omega⟩
  refine (es_st 7 (pc' := 126) (L' := [(0, .ref 40), (1, .ref 30), (2, .int x0_2), (3, .int x0_3), (5, .int x0_5), (6, .int x0_6), (7, .int x0_7)]) (S' := [.int (((4 : Int32) * x0_7) + (1 : Int32)), .ref 65]) (h' := h) rfl).trans ?_
  refine (es_ob (o := rAt h 65 (((4 : Int32) * x0_7) + (1 : Int32))) (pc' := 129) (L' := [(0, .ref 40), (1, .ref 30), (2, .int x0_2), (3, .int x0_3), (5, .int x0_5), (6, .int x0_6), (7, .int x0_7)]) (S' := fun z => [.int z]) (h' := fun z => h) rfl rfl rfl).trans (ob_cg fun x1 => ?_)
  refine (es_st 1 (pc' := 130) (L' := [(0, .ref 40), (1, .ref 30), (2, .int x0_2), (3, .int x0_3), (5, .int x0_5), (6, .int x0_6), (7, .int x0_7)]) (S' := [.int x0_3, .int x1]) (h' := h) rfl).trans ?_
  refine (is_ne (t := 165) rfl rfl rfl).trans (if_cg ?_ ?_)
  · refine (es_st 11 (pc' := 151) (L' := [(0, .ref 40), (1, .ref 30), (2, .int x0_2), (3, .int x0_3), (5, .int x0_5), (6, .int x0_6), (7, .int x0_7)]) (S' := [.int (((4 : Int32) * x0_7) + (2 : Int32)), .ref 65, .int (4 : Int32), .ref 46]) (h' := h) rfl).trans ?_
    refine (es_ob (o := rAt h 65 (((4 : Int32) * x0_7) + (2 : Int32))) (pc' := 154) (L' := [(0, .ref 40), (1, .ref 30), (2, .int x0_2), (3, .int x0_3), (5, .int x0_5), (6, .int x0_6), (7, .int x0_7)]) (S' := fun z => [.int z, .int (4 : Int32), .ref 46]) (h' := fun z => h) rfl rfl rfl).trans (ob_cg fun x2 => ?_)
    refine (es_st 3 (pc' := 157) (L' := [(0, .ref 40), (1, .ref 30), (2, .int x0_2), (3, .int x0_3), (5, .int x0_5), (6, .int x0_6), (7, .int x0_7)]) (S' := [.int (((4 : Int32) * x2) + (1 : Int32)), .ref 46]) (h' := h) rfl).trans ?_
    refine (es_ob (o := rAt h 46 (((4 : Int32) * x2) + (1 : Int32))) (pc' := 160) (L' := [(0, .ref 40), (1, .ref 30), (2, .int x0_2), (3, .int x0_3), (5, .int x0_5), (6, .int x0_6), (7, .int x0_7)]) (S' := fun z => [.int z]) (h' := fun z => h) rfl rfl rfl).trans (ob_cg fun x3 => ?_)
    refine (es_st 1 (pc' := 162) (L' := [(0, .ref 40), (1, .ref 30), (2, .int x0_2), (3, .int x0_3), (5, .int x0_5), (6, .int x0_6), (7, .int x0_7)]) (S' := [.int x0_6, .int x3]) (h' := h) rfl).trans ?_
    refine (is_eq (t := 171) rfl rfl rfl).trans (if_cg ?_ ?_)
    · refine (es_st 8 (pc' := 8) (L' := [(5, .int (x0_5 + (1 : Int32))), (4, .int (x0_5 + (1 : Int32))), (3, .int x0_7), (0, .ref 40), (1, .ref 30), (2, .int x0_2), (6, .int x0_6), (7, .int x0_7)]) (S' := []) (h' := h) rfl).trans ?_
      exact es_cut rfl rfl rfl
    · refine (es_st 2 (pc' := 116) (L' := [(7, .int (x0_7 + (1 : Int32))), (0, .ref 40), (1, .ref 30), (2, .int x0_2), (3, .int x0_3), (5, .int x0_5), (6, .int x0_6)]) (S' := []) (h' := h) rfl).trans ?_
      exact es_cut rfl rfl rfl
  · refine (es_st 2 (pc' := 116) (L' := [(7, .int (x0_7 + (1 : Int32))), (0, .ref 40), (1, .ref 30), (2, .int x0_2), (3, .int x0_3), (5, .int x0_5), (6, .int x0_6)]) (S' := []) (h' := h) rfl).trans ?_
    exact es_cut rfl rfl rfl
