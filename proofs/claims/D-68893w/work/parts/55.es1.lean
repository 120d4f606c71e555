set_option maxRecDepth 100000
theorem sX1_fault_0 (B : Bool) (d : Nat) (h : SG) : mS B d 13 [.ref 26] h = some (.inl (some (.int (sF h 27 4))), h) := by
  show evS B d 13 0 [(0, .ref 26)] [] h = _
  refine (es_st 3 (pc' := 7) (L' := [(0, .ref 26)]) (S' := [.int (sF h 27 4)]) (h' := h) rfl).trans ?_
  exact es_fin rfl rfl rfl
theorem sX1_feed_0 (B : Bool) (d : Nat) (hd : 6 ≤ d) (h : SG) (x0_1 : Int32) (x0_2 : Int32) (x0_3 : Int32) (x0_4 : Int32) (x0_5 : Int32) : mS B d 14 [.ref 26, .int x0_1, .int x0_2, .int x0_3, .int x0_4, .int x0_5] h = if ((sF h 27 3) + (20 : Int32)) ≤ (65536 : Int32) then evS B d 14 28 [(0, .ref 26), (1, .int x0_1), (2, .int x0_2), (3, .int x0_3), (4, .int x0_4), (5, .int x0_5), (6, .int (0 : Int32))] [] h else if sX h < 200 then some (.inr 11, uX h) else none := by
  obtain ⟨d, rfl⟩ : ∃ e, d = e + 6 := ⟨d - 6, by omega⟩
  show evS B (d + 6) 14 0 [(0, .ref 26), (1, .int x0_1), (2, .int x0_2), (3, .int x0_3), (4, .int x0_4), (5, .int x0_5)] [] h = _
  refine (es_st 6 (pc' := 12) (L' := [(0, .ref 26), (1, .int x0_1), (2, .int x0_2), (3, .int x0_3), (4, .int x0_4), (5, .int x0_5)]) (S' := [.int (65536 : Int32), .int ((sF h 27 3) + (20 : Int32))]) (h' := h) rfl).trans ?_
  refine (is_le (t := 25) rfl rfl rfl).trans (if_cg ?_ ?_)
  · refine (es_st 2 (pc' := 28) (L' := [(6, .int (0 : Int32)), (0, .ref 26), (1, .int x0_1), (2, .int x0_2), (3, .int x0_3), (4, .int x0_4), (5, .int x0_5)]) (S' := []) (h' := h) rfl).trans ?_
    exact es_cut rfl rfl rfl
  · exact es_exc rfl rfl rfl
theorem sX1_feed_28 (B : Bool) (d : Nat) (hd : 6 ≤ d) (h : SG) (x0_1 : Int32) (x0_2 : Int32) (x0_3 : Int32) (x0_4 : Int32) (x0_5 : Int32) (x0_6 : Int32) : evS B d 14 28 [(0, .ref 26), (1, .int x0_1), (2, .int x0_2), (3, .int x0_3), (4, .int x0_4), (5, .int x0_5), (6, .int x0_6)] [] h = if (20 : Int32) ≤ x0_6 then some (.inl (some (.int (sF h 27 3))), h) else if (4 : Int32) ≤ x0_6 then if (8 : Int32) ≤ x0_6 then if (12 : Int32) ≤ x0_6 then if (16 : Int32) ≤ x0_6 then evS B d 14 81 [(0, .ref 26), (1, .int x0_1), (2, .int x0_2), (3, .int x0_3), (4, .int x0_4), (5, .int x0_5), (6, .int x0_6)] [.int x0_5] h else evS B d 14 81 [(0, .ref 26), (1, .int x0_1), (2, .int x0_2), (3, .int x0_3), (4, .int x0_4), (5, .int x0_5), (6, .int x0_6)] [.int x0_4] h else evS B d 14 81 [(0, .ref 26), (1, .int x0_1), (2, .int x0_2), (3, .int x0_3), (4, .int x0_4), (5, .int x0_5), (6, .int x0_6)] [.int x0_3] h else evS B d 14 81 [(0, .ref 26), (1, .int x0_1), (2, .int x0_2), (3, .int x0_3), (4, .int x0_4), (5, .int x0_5), (6, .int x0_6)] [.int x0_2] h else evS B d 14 81 [(0, .ref 26), (1, .int x0_1), (2, .int x0_2), (3, .int x0_3), (4, .int x0_4), (5, .int x0_5), (6, .int x0_6)] [.int x0_1] h := by
  obtain ⟨d, rfl⟩ : ∃ e, d = e + 6 := ⟨d - 6, by omega⟩
  refine (es_st 2 (pc' := 32) (L' := [(0, .ref 26), (1, .int x0_1), (2, .int x0_2), (3, .int x0_3), (4, .int x0_4), (5, .int x0_5), (6, .int x0_6)]) (S' := [.int (20 : Int32), .int x0_6]) (h' := h) rfl).trans ?_
  refine (is_ge (t := 125) rfl rfl rfl).trans (if_cg ?_ ?_)
  · refine (es_st 3 (pc' := 132) (L' := [(0, .ref 26), (1, .int x0_1), (2, .int x0_2), (3, .int x0_3), (4, .int x0_4), (5, .int x0_5), (6, .int x0_6)]) (S' := [.int (sF h 27 3)]) (h' := h) rfl).trans ?_
    exact es_fin rfl rfl rfl
  · refine (es_st 2 (pc' := 38) (L' := [(0, .ref 26), (1, .int x0_1), (2, .int x0_2), (3, .int x0_3), (4, .int x0_4), (5, .int x0_5), (6, .int x0_6)]) (S' := [.int (4 : Int32), .int x0_6]) (h' := h) rfl).trans ?_
    refine (is_ge (t := 45) rfl rfl rfl).trans (if_cg ?_ ?_)
    · refine (es_st 2 (pc' := 49) (L' := [(0, .ref 26), (1, .int x0_1), (2, .int x0_2), (3, .int x0_3), (4, .int x0_4), (5, .int x0_5), (6, .int x0_6)]) (S' := [.int (8 : Int32), .int x0_6]) (h' := h) rfl).trans ?_
      refine (is_ge (t := 56) rfl rfl rfl).trans (if_cg ?_ ?_)
      · refine (es_st 2 (pc' := 60) (L' := [(0, .ref 26), (1, .int x0_1), (2, .int x0_2), (3, .int x0_3), (4, .int x0_4), (5, .int x0_5), (6, .int x0_6)]) (S' := [.int (12 : Int32), .int x0_6]) (h' := h) rfl).trans ?_
        refine (is_ge (t := 67) rfl rfl rfl).trans (if_cg ?_ ?_)
        · refine (es_st 2 (pc' := 71) (L' := [(0, .ref 26), (1, .int x0_1), (2, .int x0_2), (3, .int x0_3), (4, .int x0_4), (5, .int x0_5), (6, .int x0_6)]) (S' := [.int (16 : Int32), .int x0_6]) (h' := h) rfl).trans ?_
          refine (is_ge (t := 79) rfl rfl rfl).trans (if_cg ?_ ?_)
          · refine (es_st 1 (pc' := 81) (L' := [(0, .ref 26), (1, .int x0_1), (2, .int x0_2), (3, .int x0_3), (4, .int x0_4), (5, .int x0_5), (6, .int x0_6)]) (S' := [.int x0_5]) (h' := h) rfl).trans ?_
            exact es_cut rfl rfl rfl
          · refine (es_st 2 (pc' := 81) (L' := [(0, .ref 26), (1, .int x0_1), (2, .int x0_2), (3, .int x0_3), (4, .int x0_4), (5, .int x0_5), (6, .int x0_6)]) (S' := [.int x0_4]) (h' := h) rfl).trans ?_
            exact es_cut rfl rfl rfl
        · refine (es_st 2 (pc' := 81) (L' := [(0, .ref 26), (1, .int x0_1), (2, .int x0_2), (3, .int x0_3), (4, .int x0_4), (5, .int x0_5), (6, .int x0_6)]) (S' := [.int x0_3]) (h' := h) rfl).trans ?_
          exact es_cut rfl rfl rfl
      · refine (es_st 2 (pc' := 81) (L' := [(0, .ref 26), (1, .int x0_1), (2, .int x0_2), (3, .int x0_3), (4, .int x0_4), (5, .int x0_5), (6, .int x0_6)]) (S' := [.int x0_2]) (h' := h) rfl).trans ?_
        exact es_cut rfl rfl rfl
    · refine (es_st 2 (pc' := 81) (L' := [(0, .ref 26), (1, .int x0_1), (2, .int x0_2), (3, .int x0_3), (4, .int x0_4), (5, .int x0_5), (6, .int x0_6)]) (S' := [.int x0_1]) (h' := h) rfl).trans ?_
      exact es_cut rfl rfl rfl
theorem sX1_feed_81 (B : Bool) (d : Nat) (hd : 6 ≤ d) (h : SG) (x0_1 : Int32) (x0_2 : Int32) (x0_3 : Int32) (x0_4 : Int32) (x0_5 : Int32) (x0_6 : Int32) (s0 : Int32) : evS B d 14 81 [(0, .ref 26), (1, .int x0_1), (2, .int x0_2), (3, .int x0_3), (4, .int x0_4), (5, .int x0_5), (6, .int x0_6)] [.int s0] h = if ixN (sF h 27 3) 65536 = true then evS B d 14 28 [(0, .ref 26), (1, .int x0_1), (2, .int x0_2), (3, .int x0_3), (4, .int x0_4), (5, .int x0_5), (6, .int (x0_6 + (1 : Int32)))] [] (uF (uF h 27 3 ((sF h 27 3) + (1 : Int32))) 30 (sF h 27 3).toNatClampNeg (((s0 >>> (((24 : Int32) - ((8 : Int32) * (x0_6 - x0_6 / (4 : Int32) * (4 : Int32)))) &&& 31)).toInt8.toInt32).toInt8.toInt32)) else none := by
  obtain ⟨d, rfl⟩ : ∃ e, d = e + 6 := ⟨d - 6, by omega⟩
  refine (es_st 22 (pc' := 118) (L' := [(7, .int s0), (0, .ref 26), (1, .int x0_1), (2, .int x0_2), (3, .int x0_3), (4, .int x0_4), (5, .int x0_5), (6, .int x0_6)]) (S' := [.int (s0 >>> (((24 : Int32) - ((8 : Int32) * (x0_6 - x0_6 / (4 : Int32) * (4 : Int32)))) &&& 31)).toInt8.toInt32, .int (sF h 27 3), .ref 30]) (h' := (uF h 27 3 ((sF h 27 3) + (1 : Int32)))) rfl).trans ?_
  refine (es_ix (c := ixN (sF h 27 3) 65536 = true) (x := (uF (uF h 27 3 ((sF h 27 3) + (1 : Int32))) 30 (sF h 27 3).toNatClampNeg (((s0 >>> (((24 : Int32) - ((8 : Int32) * (x0_6 - x0_6 / (4 : Int32) * (4 : Int32)))) &&& 31)).toInt8.toInt32).toInt8.toInt32))) (pc' := 119) (L' := [(7, .int s0), (0, .ref 26), (1, .int x0_1), (2, .int x0_2), (3, .int x0_3), (4, .int x0_4), (5, .int x0_5), (6, .int x0_6)]) (S' := fun z => []) (h' := fun z => z) rfl rfl rfl).trans (if_cgn ?_)
  refine (es_st 2 (pc' := 28) (L' := [(6, .int (x0_6 + (1 : Int32))), (7, .int s0), (0, .ref 26), (1, .int x0_1), (2, .int x0_2), (3, .int x0_3), (4, .int x0_4), (5, .int x0_5)]) (S' := []) (h' := (uF (uF h 27 3 ((sF h 27 3) + (1 : Int32))) 30 (sF h 27 3).toNatClampNeg (((s0 >>> (((24 : Int32) - ((8 : Int32) * (x0_6 - x0_6 / (4 : Int32) * (4 : Int32)))) &&& 31)).toInt8.toInt32).toInt8.toInt32))) rfl).trans ?_
  exact es_cut rfl rfl rfl
theorem sX1_end_0 (B : Bool) (d : Nat) (hd : 1 ≤ d) (h : SG) (x0_1 : Int32) : mS B d 15 [.ref 26, .int x0_1] h = if x0_1 < 0 then kV (mS B (d - 1) 16 [.int (0 : Int32)] h) (fun h1 => some (.inl none, (uF h1 27 3 x0_1))) else if (sF h 27 3) < x0_1 then kV (mS B (d - 1) 16 [.int (0 : Int32)] h) (fun h2 => some (.inl none, (uF h2 27 3 x0_1))) else kV (mS B (d - 1) 16 [.int (1 : Int32)] h) (fun h3 => some (.inl none, (uF h3 27 3 x0_1))) := by
  obtain ⟨d, rfl⟩ : ∃ e, d = e + 1 := ⟨d - 1, by omega⟩
  show evS B (d + 1) 15 0 [(0, .ref 26), (1, .int x0_1)] [] h = _
  refine (es_st 1 (pc' := 1) (L' := [(0, .ref 26), (1, .int x0_1)]) (S' := [.int x0_1]) (h' := h) rfl).trans ?_
  refine (zs_lt (t := 19) rfl rfl rfl).trans (if_cg ?_ ?_)
  · refine (es_st 1 (pc' := 20) (L' := [(0, .ref 26), (1, .int x0_1)]) (S' := [.int (0 : Int32)]) (h' := h) rfl).trans ?_
    refine (es_cV (b := true) (k' := 16) (pc' := 23) (as := [.int (0 : Int32)]) (S' := []) (L' := [(0, .ref 26), (1, .int x0_1)]) (h' := h) rfl rfl rfl rfl rfl).trans (kV_cg fun h1 => ?_)
    refine (es_st 4 (pc' := 31) (L' := [(0, .ref 26), (1, .int x0_1)]) (S' := []) (h' := (uF h1 27 3 x0_1)) rfl).trans ?_
    exact es_fin rfl rfl rfl
  · refine (es_st 4 (pc' := 12) (L' := [(0, .ref 26), (1, .int x0_1)]) (S' := [.int (sF h 27 3), .int x0_1]) (h' := h) rfl).trans ?_
    refine (is_gt (t := 19) rfl rfl rfl).trans (if_cg ?_ ?_)
    · refine (es_st 1 (pc' := 20) (L' := [(0, .ref 26), (1, .int x0_1)]) (S' := [.int (0 : Int32)]) (h' := h) rfl).trans ?_
      refine (es_cV (b := true) (k' := 16) (pc' := 23) (as := [.int (0 : Int32)]) (S' := []) (L' := [(0, .ref 26), (1, .int x0_1)]) (h' := h) rfl rfl rfl rfl rfl).trans (kV_cg fun h2 => ?_)
      refine (es_st 4 (pc' := 31) (L' := [(0, .ref 26), (1, .int x0_1)]) (S' := []) (h' := (uF h2 27 3 x0_1)) rfl).trans ?_
      exact es_fin rfl rfl rfl
    · refine (es_st 2 (pc' := 20) (L' := [(0, .ref 26), (1, .int x0_1)]) (S' := [.int (1 : Int32)]) (h' := h) rfl).trans ?_
      refine (es_cV (b := true) (k' := 16) (pc' := 23) (as := [.int (1 : Int32)]) (S' := []) (L' := [(0, .ref 26), (1, .int x0_1)]) (h' := h) rfl rfl rfl rfl rfl).trans (kV_cg fun h3 => ?_)
      refine (es_st 4 (pc' := 31) (L' := [(0, .ref 26), (1, .int x0_1)]) (S' := []) (h' := (uF h3 27 3 x0_1)) rfl).trans ?_
      exact es_fin rfl rfl rfl
theorem sX1_needs_0 (B : Bool) (d : Nat) (hd : 6 ≤ d) (h : SG) (x0_0 : Int32) : mS B d 16 [.int x0_0] h = if x0_0 = 0 then if sX h < 200 then some (.inr 12, uX h) else none else some (.inl none, h) := by
  obtain ⟨d, rfl⟩ : ∃ e, d = e + 6 := ⟨d - 6, by omega⟩
  show evS B (d + 6) 16 0 [(0, .int x0_0)] [] h = _
  refine (es_st 1 (pc' := 1) (L' := [(0, .int x0_0)]) (S' := [.int x0_0]) (h' := h) rfl).trans ?_
  refine (zs_ne (t := 14) rfl rfl rfl).trans (if_cg ?_ ?_)
  · exact es_exc rfl rfl rfl
  · exact es_fin rfl rfl rfl
theorem sX1_count_0 (B : Bool) (d : Nat) (hd : 6 ≤ d) (h : SG) (x0_1 : Int32) : mS B d 17 [.ref 26, .int x0_1] h = kV (mS B (d - 1) 18 [.ref 26] h) (fun h1 => if x0_1 = (0 : Int32) then kI (mS B (d - 1) 130 [.ref 41] h1) (fun x3 h2 => some (.inl (some (.int x3)), h2)) else if x0_1 = (1 : Int32) then some (.inl (some (.int (((Int32.ofNat (sW h1 65).length) / (4 : Int32)) - (1 : Int32)))), h1) else if x0_1 = (2 : Int32) then some (.inl (some (.int ((Int32.ofNat (sW h1 67).length) / (3 : Int32)))), h1) else if x0_1 = (3 : Int32) then some (.inl (some (.int (Int32.ofNat (sW h1 79).length))), h1) else if x0_1 = (4 : Int32) then some (.inl (some (.int (Int32.ofNat (sW h1 77).length))), h1) else if x0_1 = (5 : Int32) then some (.inl (some (.int (Int32.ofNat (sW h1 83).length))), h1) else if x0_1 = (6 : Int32) then kI (mS B (d - 1) 99 [.ref 40, .int (3 : Int32)] h1) (fun x5 h4 => some (.inl (some (.int x5)), h4)) else if sX h1 < 200 then some (.inr 12, uX h1) else none) := by
  obtain ⟨d, rfl⟩ : ∃ e, d = e + 6 := ⟨d - 6, by omega⟩
  show evS B (d + 6) 17 0 [(0, .ref 26), (1, .int x0_1)] [] h = _
  refine (es_st 1 (pc' := 1) (L' := [(0, .ref 26), (1, .int x0_1)]) (S' := [.ref 26]) (h' := h) rfl).trans ?_
  refine (es_cV (b := true) (k' := 18) (pc' := 4) (as := [.ref 26]) (S' := []) (L' := [(0, .ref 26), (1, .int x0_1)]) (h' := h) rfl rfl rfl rfl rfl).trans (kV_cg fun h1 => ?_)
  refine (es_st 1 (pc' := 5) (L' := [(0, .ref 26), (1, .int x0_1)]) (S' := [.int x0_1]) (h' := h1) rfl).trans ?_
  refine (es_sw (a := x0_1) (cs := [((0 : Int32), 48), ((1 : Int32), 59), ((2 : Int32), 74), ((3 : Int32), 87), ((4 : Int32), 98), ((5 : Int32), 109), ((6 : Int32), 120)]) (df := 129) (L' := [(0, .ref 26), (1, .int x0_1)]) (S' := []) rfl rfl rfl).trans ?_
  refine ss_cons.trans (if_cg ?_ ?_)
  · refine (es_st 3 (pc' := 55) (L' := [(0, .ref 26), (1, .int x0_1)]) (S' := [.ref 41]) (h' := h1) rfl).trans ?_
    refine (es_cI (b := true) (k' := 130) (pc' := 58) (as := [.ref 41]) (S' := []) (L' := [(0, .ref 26), (1, .int x0_1)]) (h' := h1) rfl rfl rfl rfl rfl).trans (kI_cg fun x3 h2 => ?_)
    exact es_fin rfl rfl rfl
  · refine ss_cons.trans (if_cg ?_ ?_)
    · refine (es_st 8 (pc' := 73) (L' := [(0, .ref 26), (1, .int x0_1)]) (S' := [.int (((Int32.ofNat (sW h1 65).length) / (4 : Int32)) - (1 : Int32))]) (h' := h1) rfl).trans ?_
      exact es_fin rfl rfl rfl
    · refine ss_cons.trans (if_cg ?_ ?_)
      · refine (es_st 6 (pc' := 86) (L' := [(0, .ref 26), (1, .int x0_1)]) (S' := [.int ((Int32.ofNat (sW h1 67).length) / (3 : Int32))]) (h' := h1) rfl).trans ?_
        exact es_fin rfl rfl rfl
      · refine ss_cons.trans (if_cg ?_ ?_)
        · refine (es_st 4 (pc' := 97) (L' := [(0, .ref 26), (1, .int x0_1)]) (S' := [.int (Int32.ofNat (sW h1 79).length)]) (h' := h1) rfl).trans ?_
          exact es_fin rfl rfl rfl
        · refine ss_cons.trans (if_cg ?_ ?_)
          · refine (es_st 4 (pc' := 108) (L' := [(0, .ref 26), (1, .int x0_1)]) (S' := [.int (Int32.ofNat (sW h1 77).length)]) (h' := h1) rfl).trans ?_
            exact es_fin rfl rfl rfl
          · refine ss_cons.trans (if_cg ?_ ?_)
            · refine (es_st 4 (pc' := 119) (L' := [(0, .ref 26), (1, .int x0_1)]) (S' := [.int (Int32.ofNat (sW h1 83).length)]) (h' := h1) rfl).trans ?_
              exact es_fin rfl rfl rfl
            · refine ss_cons.trans (if_cg ?_ ?_)
              · refine (es_st 3 (pc' := 125) (L' := [(0, .ref 26), (1, .int x0_1)]) (S' := [.int (3 : Int32), .ref 40]) (h' := h1) rfl).trans ?_
                refine (es_cI (b := true) (k' := 99) (pc' := 128) (as := [.ref 40, .int (3 : Int32)]) (S' := []) (L' := [(0, .ref 26), (1, .int x0_1)]) (h' := h1) rfl rfl rfl rfl rfl).trans (kI_cg fun x5 h4 => ?_)
                exact es_fin rfl rfl rfl
              · exact es_exc rfl rfl rfl
theorem sX1_need_0 (B : Bool) (d : Nat) (hd : 6 ≤ d) (h : SG) : mS B d 18 [.ref 26] h = if (sF h 26 4) = 0 then if sX h < 200 then some (.inr 0, uX h) else none else some (.inl none, h) := by
  obtain ⟨d, rfl⟩ : ∃ e, d = e + 6 := ⟨d - 6, by omega⟩
  show evS B (d + 6) 18 0 [(0, .ref 26)] [] h = _
  refine (es_st 2 (pc' := 4) (L' := [(0, .ref 26)]) (S' := [.int (sF h 26 4)]) (h' := h) rfl).trans ?_
  refine (zs_ne (t := 17) rfl rfl rfl).trans (if_cg ?_ ?_)
  · exact es_exc rfl rfl rfl
  · exact es_fin rfl rfl rfl
theorem sX1_find_0 (B : Bool) (d : Nat) (hd : 1 ≤ d) (h : SG) : mS B d 19 [.ref 26] h = kV (mS B (d - 1) 18 [.ref 26] h) (fun h1 => kI (mS B (d - 1) 127 [.ref 40, .ref 30, .int (sF h1 27 3)] (uF h1 27 3 (0 : Int32))) (fun x3 h2 => some (.inl (some (.int x3)), h2))) := by
  obtain ⟨d, rfl⟩ : ∃ e, d = e + 1 := ⟨d - 1, by omega⟩
  show evS B (d + 1) 19 0 [(0, .ref 26)] [] h = _
  refine (es_st 1 (pc' := 1) (L' := [(0, .ref 26)]) (S' := [.ref 26]) (h' := h) rfl).trans ?_
  refine (es_cV (b := true) (k' := 18) (pc' := 4) (as := [.ref 26]) (S' := []) (L' := [(0, .ref 26)]) (h' := h) rfl rfl rfl rfl rfl).trans (kV_cg fun h1 => ?_)
  refine (es_st 14 (pc' := 32) (L' := [(1, .int (sF h1 27 3)), (0, .ref 26)]) (S' := [.int (sF h1 27 3), .ref 30, .ref 40]) (h' := (uF h1 27 3 (0 : Int32))) rfl).trans ?_
  refine (es_cI (b := true) (k' := 127) (pc' := 35) (as := [.ref 40, .ref 30, .int (sF h1 27 3)]) (S' := []) (L' := [(1, .int (sF h1 27 3)), (0, .ref 26)]) (h' := (uF h1 27 3 (0 : Int32))) rfl rfl rfl rfl rfl).trans (kI_cg fun x3 h2 => ?_)
  exact es_fin rfl rfl rfl
theorem sX1_signal_0 (B : Bool) (d : Nat) (hd : 1 ≤ d) (h : SG) (x0_1 : Int32) (x0_2 : Int32) : mS B d 20 [.ref 26, .int x0_1, .int x0_2] h = kV (mS B (d - 1) 21 [.ref 26, .int x0_1] h) (fun h1 => if x0_2 < 0 then evS B d 20 19 [(0, .ref 26), (1, .int x0_1), (2, .int x0_2)] [.int (0 : Int32)] h1 else if (2 : Int32) < x0_2 then evS B d 20 19 [(0, .ref 26), (1, .int x0_1), (2, .int x0_2)] [.int (0 : Int32)] h1 else evS B d 20 19 [(0, .ref 26), (1, .int x0_1), (2, .int x0_2)] [.int (1 : Int32)] h1) := by
  obtain ⟨d, rfl⟩ : ∃ e, d = e + 1 := ⟨d - 1, by omega⟩
  show evS B (d + 1) 20 0 [(0, .ref 26), (1, .int x0_1), (2, .int x0_2)] [] h = _
  refine (es_st 2 (pc' := 2) (L' := [(0, .ref 26), (1, .int x0_1), (2, .int x0_2)]) (S' := [.int x0_1, .ref 26]) (h' := h) rfl).trans ?_
  refine (es_cV (b := true) (k' := 21) (pc' := 5) (as := [.ref 26, .int x0_1]) (S' := []) (L' := [(0, .ref 26), (1, .int x0_1), (2, .int x0_2)]) (h' := h) rfl rfl rfl rfl rfl).trans (kV_cg fun h1 => ?_)
  refine (es_st 1 (pc' := 6) (L' := [(0, .ref 26), (1, .int x0_1), (2, .int x0_2)]) (S' := [.int x0_2]) (h' := h1) rfl).trans ?_
  refine (zs_lt (t := 18) rfl rfl rfl).trans (if_cg ?_ ?_)
  · refine (es_st 1 (pc' := 19) (L' := [(0, .ref 26), (1, .int x0_1), (2, .int x0_2)]) (S' := [.int (0 : Int32)]) (h' := h1) rfl).trans ?_
    exact es_cut rfl rfl rfl
  · refine (es_st 2 (pc' := 11) (L' := [(0, .ref 26), (1, .int x0_1), (2, .int x0_2)]) (S' := [.int (2 : Int32), .int x0_2]) (h' := h1) rfl).trans ?_
    refine (is_gt (t := 18) rfl rfl rfl).trans (if_cg ?_ ?_)
    · refine (es_st 1 (pc' := 19) (L' := [(0, .ref 26), (1, .int x0_1), (2, .int x0_2)]) (S' := [.int (0 : Int32)]) (h' := h1) rfl).trans ?_
      exact es_cut rfl rfl rfl
    · refine (es_st 2 (pc' := 19) (L' := [(0, .ref 26), (1, .int x0_1), (2, .int x0_2)]) (S' := [.int (1 : Int32)]) (h' := h1) rfl).trans ?_
      exact es_cut rfl rfl rfl
theorem sX1_signal_19 (B : Bool) (d : Nat) (hd : 1 ≤ d) (h : SG) (x0_1 : Int32) (x0_2 : Int32) (s0 : Int32) : evS B d 20 19 [(0, .ref 26), (1, .int x0_1), (2, .int x0_2)] [.int s0] h = kV (mS B (d - 1) 16 [.int s0] h) (fun h1 => if x0_2 = 0 then kI (mS B (d - 1) 115 [.ref 40, .int x0_1] h1) (fun x11 h10 => some (.inl (some (.int x11)), h10)) else if x0_2 = (2 : Int32) then kI (mS B (d - 1) 105 [.ref 40, .int x0_1] h1) (fun x7 h6 => kI (mS B (d - 1) 136 [.ref 41, .int x7, .int (6 : Int32)] h6) (fun x9 h8 => some (.inl (some (.int x9)), h8))) else kI (mS B (d - 1) 106 [.ref 40, .int x0_1] h1) (fun x3 h2 => if x3 = 0 then kI (mS B (d - 1) 112 [.ref 40, .int x0_1] h2) (fun x5 h4 => if x5 = 0 then some (.inl (some (.int (1 : Int32))), h4) else some (.inl (some (.int (2 : Int32))), h4)) else some (.inl (some (.int (0 : Int32))), h2))) := by
  obtain ⟨d, rfl⟩ : ∃ e, d = e + 1 := ⟨d - 1, by omega⟩
  refine (es_cV (b := true) (k' := 16) (pc' := 22) (as := [.int s0]) (S' := []) (L' := [(0, .ref 26), (1, .int x0_1), (2, .int x0_2)]) (h' := h) rfl rfl rfl rfl rfl).trans (kV_cg fun h1 => ?_)
  refine (es_st 1 (pc' := 23) (L' := [(0, .ref 26), (1, .int x0_1), (2, .int x0_2)]) (S' := [.int x0_2]) (h' := h1) rfl).trans ?_
  refine (zs_ne (t := 35) rfl rfl rfl).trans (if_cg ?_ ?_)
  · refine (es_st 3 (pc' := 31) (L' := [(0, .ref 26), (1, .int x0_1), (2, .int x0_2)]) (S' := [.int x0_1, .ref 40]) (h' := h1) rfl).trans ?_
    refine (es_cI (b := true) (k' := 115) (pc' := 34) (as := [.ref 40, .int x0_1]) (S' := []) (L' := [(0, .ref 26), (1, .int x0_1), (2, .int x0_2)]) (h' := h1) rfl rfl rfl rfl rfl).trans (kI_cg fun x11 h10 => ?_)
    exact es_fin rfl rfl rfl
  · refine (es_st 2 (pc' := 37) (L' := [(0, .ref 26), (1, .int x0_1), (2, .int x0_2)]) (S' := [.int (2 : Int32), .int x0_2]) (h' := h1) rfl).trans ?_
    refine (is_ne (t := 63) rfl rfl rfl).trans (if_cg ?_ ?_)
    · refine (es_st 6 (pc' := 52) (L' := [(0, .ref 26), (1, .int x0_1), (2, .int x0_2)]) (S' := [.int x0_1, .ref 40, .ref 41]) (h' := h1) rfl).trans ?_
      refine (es_cI (b := true) (k' := 105) (pc' := 55) (as := [.ref 40, .int x0_1]) (S' := [.ref 41]) (L' := [(0, .ref 26), (1, .int x0_1), (2, .int x0_2)]) (h' := h1) rfl rfl rfl rfl rfl).trans (kI_cg fun x7 h6 => ?_)
      refine (es_st 1 (pc' := 57) (L' := [(0, .ref 26), (1, .int x0_1), (2, .int x0_2)]) (S' := [.int (6 : Int32), .int x7, .ref 41]) (h' := h6) rfl).trans ?_
      refine (es_cI (b := true) (k' := 136) (pc' := 60) (as := [.ref 41, .int x7, .int (6 : Int32)]) (S' := []) (L' := [(0, .ref 26), (1, .int x0_1), (2, .int x0_2)]) (h' := h6) rfl rfl rfl rfl rfl).trans (kI_cg fun x9 h8 => ?_)
      refine (es_st 1 (pc' := 94) (L' := [(0, .ref 26), (1, .int x0_1), (2, .int x0_2)]) (S' := [.int x9]) (h' := h8) rfl).trans ?_
      exact es_fin rfl rfl rfl
    · refine (es_st 3 (pc' := 68) (L' := [(0, .ref 26), (1, .int x0_1), (2, .int x0_2)]) (S' := [.int x0_1, .ref 40]) (h' := h1) rfl).trans ?_
      refine (es_cI (b := true) (k' := 106) (pc' := 71) (as := [.ref 40, .int x0_1]) (S' := []) (L' := [(0, .ref 26), (1, .int x0_1), (2, .int x0_2)]) (h' := h1) rfl rfl rfl rfl rfl).trans (kI_cg fun x3 h2 => ?_)
      refine (zs_eq (t := 78) rfl rfl rfl).trans (if_cg ?_ ?_)
      · refine (es_st 3 (pc' := 83) (L' := [(0, .ref 26), (1, .int x0_1), (2, .int x0_2)]) (S' := [.int x0_1, .ref 40]) (h' := h2) rfl).trans ?_
        refine (es_cI (b := true) (k' := 112) (pc' := 86) (as := [.ref 40, .int x0_1]) (S' := []) (L' := [(0, .ref 26), (1, .int x0_1), (2, .int x0_2)]) (h' := h2) rfl rfl rfl rfl rfl).trans (kI_cg fun x5 h4 => ?_)
        refine (zs_eq (t := 93) rfl rfl rfl).trans (if_cg ?_ ?_)
        · refine (es_st 1 (pc' := 94) (L' := [(0, .ref 26), (1, .int x0_1), (2, .int x0_2)]) (S' := [.int (1 : Int32)]) (h' := h4) rfl).trans ?_
          exact es_fin rfl rfl rfl
        · refine (es_st 2 (pc' := 94) (L' := [(0, .ref 26), (1, .int x0_1), (2, .int x0_2)]) (S' := [.int (2 : Int32)]) (h' := h4) rfl).trans ?_
          exact es_fin rfl rfl rfl
      · refine (es_st 2 (pc' := 94) (L' := [(0, .ref 26), (1, .int x0_1), (2, .int x0_2)]) (S' := [.int (0 : Int32)]) (h' := h2) rfl).trans ?_
        exact es_fin rfl rfl rfl
theorem sX1_signal_2_0 (B : Bool) (d : Nat) (hd : 6 ≤ d) (h : SG) (x0_1 : Int32) : mS B d 21 [.ref 26, .int x0_1] h = kV (mS B (d - 1) 18 [.ref 26] h) (fun h1 => if x0_1 < 0 then if sX h1 < 200 then some (.inr 13, uX h1) else none else if x0_1 < ((Int32.ofNat (sW h1 67).length) / (3 : Int32)) then some (.inl none, h1) else if sX h1 < 200 then some (.inr 13, uX h1) else none) := by
  obtain ⟨d, rfl⟩ : ∃ e, d = e + 6 := ⟨d - 6, by omega⟩
  show evS B (d + 6) 21 0 [(0, .ref 26), (1, .int x0_1)] [] h = _
  refine (es_st 1 (pc' := 1) (L' := [(0, .ref 26), (1, .int x0_1)]) (S' := [.ref 26]) (h' := h) rfl).trans ?_
  refine (es_cV (b := true) (k' := 18) (pc' := 4) (as := [.ref 26]) (S' := []) (L' := [(0, .ref 26), (1, .int x0_1)]) (h' := h) rfl rfl rfl rfl rfl).trans (kV_cg fun h1 => ?_)
  refine (es_st 1 (pc' := 5) (L' := [(0, .ref 26), (1, .int x0_1)]) (S' := [.int x0_1]) (h' := h1) rfl).trans ?_
  refine (zs_lt (t := 24) rfl rfl rfl).trans (if_cg ?_ ?_)
  · exact es_exc rfl rfl rfl
  · refine (es_st 7 (pc' := 21) (L' := [(0, .ref 26), (1, .int x0_1)]) (S' := [.int ((Int32.ofNat (sW h1 67).length) / (3 : Int32)), .int x0_1]) (h' := h1) rfl).trans ?_
    refine (is_lt (t := 34) rfl rfl rfl).trans (if_cg ?_ ?_)
    · exact es_fin rfl rfl rfl
    · exact es_exc rfl rfl rfl
theorem sX1_reset_0 (B : Bool) (d : Nat) (hd : 1 ≤ d) (h : SG) : mS B d 22 [.ref 26] h = kV (mS B (d - 1) 18 [.ref 26] h) (fun h1 => kV (mS B (d - 1) 177 [.ref 144, .ref 40] h1) (fun h2 => some (.inl none, (uF h2 26 6 (0 : Int32))))) := by
  obtain ⟨d, rfl⟩ : ∃ e, d = e + 1 := ⟨d - 1, by omega⟩
  show evS B (d + 1) 22 0 [(0, .ref 26)] [] h = _
  refine (es_st 1 (pc' := 1) (L' := [(0, .ref 26)]) (S' := [.ref 26]) (h' := h) rfl).trans ?_
  refine (es_cV (b := true) (k' := 18) (pc' := 4) (as := [.ref 26]) (S' := []) (L' := [(0, .ref 26)]) (h' := h) rfl rfl rfl rfl rfl).trans (kV_cg fun h1 => ?_)
  refine (es_st 4 (pc' := 12) (L' := [(0, .ref 26)]) (S' := [.ref 40, .ref 144]) (h' := h1) rfl).trans ?_
  refine (es_cV (b := true) (k' := 177) (pc' := 15) (as := [.ref 144, .ref 40]) (S' := []) (L' := [(0, .ref 26)]) (h' := h1) rfl rfl rfl rfl rfl).trans (kV_cg fun h2 => ?_)
  refine (es_st 3 (pc' := 20) (L' := [(0, .ref 26)]) (S' := []) (h' := (uF h2 26 6 (0 : Int32))) rfl).trans ?_
  exact es_fin rfl rfl rfl
theorem sX1_set_0 (B : Bool) (d : Nat) (hd : 4 ≤ d) (h : SG) (x0_1 : Int32) (x0_2 : Int32) : mS B d 23 [.ref 26, .int x0_1, .int x0_2] h = kV (mS B (d - 1) 21 [.ref 26, .int x0_1] h) (fun h1 => kI (mS B (d - 1) 106 [.ref 40, .int x0_1] h1) (fun x3 h2 => if x3 = 0 then kV (mS B (d - 1) 16 [.int (0 : Int32)] h2) (fun h4 => evS B d 23 44 [(0, .ref 26), (1, .int x0_1), (2, .int x0_2), (3, .int (0 : Int32))] [] h4) else if x0_2 < 0 then kV (mS B (d - 1) 16 [.int (0 : Int32)] h2) (fun h5 => evS B d 23 44 [(0, .ref 26), (1, .int x0_1), (2, .int x0_2), (3, .int (0 : Int32))] [] h5) else kI (mS B (d - 1) 115 [.ref 40, .int x0_1] h2) (fun x7 h6 => if ((1 : Int32) <<< (x7 &&& 31)) ≤ x0_2 then kV (mS B (d - 1) 16 [.int (0 : Int32)] h6) (fun h8 => evS B d 23 44 [(0, .ref 26), (1, .int x0_1), (2, .int x0_2), (3, .int (0 : Int32))] [] h8) else kV (mS B (d - 1) 16 [.int (1 : Int32)] h6) (fun h9 => evS B d 23 44 [(0, .ref 26), (1, .int x0_1), (2, .int x0_2), (3, .int (0 : Int32))] [] h9)))) := by
  obtain ⟨d, rfl⟩ : ∃ e, d = e + 4 := ⟨d - 4, by omega⟩
  show evS B (d + 4) 23 0 [(0, .ref 26), (1, .int x0_1), (2, .int x0_2)] [] h = _
  refine (es_st 2 (pc' := 2) (L' := [(0, .ref 26), (1, .int x0_1), (2, .int x0_2)]) (S' := [.int x0_1, .ref 26]) (h' := h) rfl).trans ?_
  refine (es_cV (b := true) (k' := 21) (pc' := 5) (as := [.ref 26, .int x0_1]) (S' := []) (L' := [(0, .ref 26), (1, .int x0_1), (2, .int x0_2)]) (h' := h) rfl rfl rfl rfl rfl).trans (kV_cg fun h1 => ?_)
  refine (es_st 3 (pc' := 10) (L' := [(0, .ref 26), (1, .int x0_1), (2, .int x0_2)]) (S' := [.int x0_1, .ref 40]) (h' := h1) rfl).trans ?_
  refine (es_cI (b := true) (k' := 106) (pc' := 13) (as := [.ref 40, .int x0_1]) (S' := []) (L' := [(0, .ref 26), (1, .int x0_1), (2, .int x0_2)]) (h' := h1) rfl rfl rfl rfl rfl).trans (kI_cg fun x3 h2 => ?_)
  refine (zs_eq (t := 38) rfl rfl rfl).trans (if_cg ?_ ?_)
  · refine (es_st 1 (pc' := 39) (L' := [(0, .ref 26), (1, .int x0_1), (2, .int x0_2)]) (S' := [.int (0 : Int32)]) (h' := h2) rfl).trans ?_
    refine (es_cV (b := true) (k' := 16) (pc' := 42) (as := [.int (0 : Int32)]) (S' := []) (L' := [(0, .ref 26), (1, .int x0_1), (2, .int x0_2)]) (h' := h2) rfl rfl rfl rfl rfl).trans (kV_cg fun h4 => ?_)
    refine (es_st 2 (pc' := 44) (L' := [(3, .int (0 : Int32)), (0, .ref 26), (1, .int x0_1), (2, .int x0_2)]) (S' := []) (h' := h4) rfl).trans ?_
    exact es_cut rfl rfl rfl
  · refine (es_st 1 (pc' := 17) (L' := [(0, .ref 26), (1, .int x0_1), (2, .int x0_2)]) (S' := [.int x0_2]) (h' := h2) rfl).trans ?_
    refine (zs_lt (t := 38) rfl rfl rfl).trans (if_cg ?_ ?_)
    · refine (es_st 1 (pc' := 39) (L' := [(0, .ref 26), (1, .int x0_1), (2, .int x0_2)]) (S' := [.int (0 : Int32)]) (h' := h2) rfl).trans ?_
      refine (es_cV (b := true) (k' := 16) (pc' := 42) (as := [.int (0 : Int32)]) (S' := []) (L' := [(0, .ref 26), (1, .int x0_1), (2, .int x0_2)]) (h' := h2) rfl rfl rfl rfl rfl).trans (kV_cg fun h5 => ?_)
      refine (es_st 2 (pc' := 44) (L' := [(3, .int (0 : Int32)), (0, .ref 26), (1, .int x0_1), (2, .int x0_2)]) (S' := []) (h' := h5) rfl).trans ?_
      exact es_cut rfl rfl rfl
    · refine (es_st 5 (pc' := 27) (L' := [(0, .ref 26), (1, .int x0_1), (2, .int x0_2)]) (S' := [.int x0_1, .ref 40, .int (1 : Int32), .int x0_2]) (h' := h2) rfl).trans ?_
      refine (es_cI (b := true) (k' := 115) (pc' := 30) (as := [.ref 40, .int x0_1]) (S' := [.int (1 : Int32), .int x0_2]) (L' := [(0, .ref 26), (1, .int x0_1), (2, .int x0_2)]) (h' := h2) rfl rfl rfl rfl rfl).trans (kI_cg fun x7 h6 => ?_)
      refine (es_st 1 (pc' := 31) (L' := [(0, .ref 26), (1, .int x0_1), (2, .int x0_2)]) (S' := [.int ((1 : Int32) <<< (x7 &&& 31)), .int x0_2]) (h' := h6) rfl).trans ?_
      refine (is_ge (t := 38) rfl rfl rfl).trans (if_cg ?_ ?_)
      · refine (es_st 1 (pc' := 39) (L' := [(0, .ref 26), (1, .int x0_1), (2, .int x0_2)]) (S' := [.int (0 : Int32)]) (h' := h6) rfl).trans ?_
        refine (es_cV (b := true) (k' := 16) (pc' := 42) (as := [.int (0 : Int32)]) (S' := []) (L' := [(0, .ref 26), (1, .int x0_1), (2, .int x0_2)]) (h' := h6) rfl rfl rfl rfl rfl).trans (kV_cg fun h8 => ?_)
        refine (es_st 2 (pc' := 44) (L' := [(3, .int (0 : Int32)), (0, .ref 26), (1, .int x0_1), (2, .int x0_2)]) (S' := []) (h' := h8) rfl).trans ?_
        exact es_cut rfl rfl rfl
      · refine (es_st 2 (pc' := 39) (L' := [(0, .ref 26), (1, .int x0_1), (2, .int x0_2)]) (S' := [.int (1 : Int32)]) (h' := h6) rfl).trans ?_
        refine (es_cV (b := true) (k' := 16) (pc' := 42) (as := [.int (1 : Int32)]) (S' := []) (L' := [(0, .ref 26), (1, .int x0_1), (2, .int x0_2)]) (h' := h6) rfl rfl rfl rfl rfl).trans (kV_cg fun h9 => ?_)
        refine (es_st 2 (pc' := 44) (L' := [(3, .int (0 : Int32)), (0, .ref 26), (1, .int x0_1), (2, .int x0_2)]) (S' := []) (h' := h9) rfl).trans ?_
        exact es_cut rfl rfl rfl
theorem sX1_set_44 (B : Bool) (d : Nat) (hd : 4 ≤ d) (h : SG) (x0_1 : Int32) (x0_2 : Int32) (x0_3 : Int32) : evS B d 23 44 [(0, .ref 26), (1, .int x0_1), (2, .int x0_2), (3, .int x0_3)] [] h = ob (rAt h 77 x0_3) (fun x1 => kI (mS B (d - 1) 116 [.ref 40, .int x0_1] h) (fun x3 h2 => ob (rAt h2 69 x3) (fun x4 => if x1 = (x4 / (2 : Int32)) then kI (mS B (d - 1) 115 [.ref 40, .int x0_1] h2) (fun x6 h5 => some (.inl none, (uF (uF h5 144 2 (((sF h2 144 2) &&& (((((1 : Int32) <<< (x6 &&& 31)) - (1 : Int32)) <<< (x0_3 &&& 31)) ^^^ (-1 : Int32))) ||| (x0_2 <<< (x0_3 &&& 31)))) 26 6 (0 : Int32)))) else evS B d 23 44 [(0, .ref 26), (1, .int x0_1), (2, .int x0_2), (3, .int (x0_3 + (1 : Int32)))] [] h2))) := by
  obtain ⟨d, rfl⟩ : ∃ e, d = e + 4 := ⟨d - 4, by omega⟩
  refine (es_st 4 (pc' := 52) (L' := [(0, .ref 26), (1, .int x0_1), (2, .int x0_2), (3, .int x0_3)]) (S' := [.int x0_3, .ref 77]) (h' := h) rfl).trans ?_
  refine (es_ob (o := rAt h 77 x0_3) (pc' := 55) (L' := [(0, .ref 26), (1, .int x0_1), (2, .int x0_2), (3, .int x0_3)]) (S' := fun z => [.int z]) (h' := fun z => h) rfl rfl rfl).trans (ob_cg fun x1 => ?_)
  refine (es_st 6 (pc' := 67) (L' := [(0, .ref 26), (1, .int x0_1), (2, .int x0_2), (3, .int x0_3)]) (S' := [.int x0_1, .ref 40, .ref 69, .int x1]) (h' := h) rfl).trans ?_
  refine (es_cI (b := true) (k' := 116) (pc' := 70) (as := [.ref 40, .int x0_1]) (S' := [.ref 69, .int x1]) (L' := [(0, .ref 26), (1, .int x0_1), (2, .int x0_2), (3, .int x0_3)]) (h' := h) rfl rfl rfl rfl rfl).trans (kI_cg fun x3 h2 => ?_)
  refine (es_ob (o := rAt h2 69 x3) (pc' := 73) (L' := [(0, .ref 26), (1, .int x0_1), (2, .int x0_2), (3, .int x0_3)]) (S' := fun z => [.int z, .int x1]) (h' := fun z => h2) rfl rfl rfl).trans (ob_cg fun x4 => ?_)
  refine (es_st 2 (pc' := 75) (L' := [(0, .ref 26), (1, .int x0_1), (2, .int x0_2), (3, .int x0_3)]) (S' := [.int (x4 / (2 : Int32)), .int x1]) (h' := h2) rfl).trans ?_
  refine (is_eq (t := 84) rfl rfl rfl).trans (if_cg ?_ ?_)
  · refine (es_st 9 (pc' := 101) (L' := [(0, .ref 26), (1, .int x0_1), (2, .int x0_2), (3, .int x0_3)]) (S' := [.int x0_1, .ref 40, .int (1 : Int32), .int (sF h2 144 2), .ref 144]) (h' := h2) rfl).trans ?_
    refine (es_cI (b := true) (k' := 115) (pc' := 104) (as := [.ref 40, .int x0_1]) (S' := [.int (1 : Int32), .int (sF h2 144 2), .ref 144]) (L' := [(0, .ref 26), (1, .int x0_1), (2, .int x0_2), (3, .int x0_3)]) (h' := h2) rfl rfl rfl rfl rfl).trans (kI_cg fun x6 h5 => ?_)
    refine (es_st 16 (pc' := 124) (L' := [(0, .ref 26), (1, .int x0_1), (2, .int x0_2), (3, .int x0_3)]) (S' := []) (h' := (uF (uF h5 144 2 (((sF h2 144 2) &&& (((((1 : Int32) <<< (x6 &&& 31)) - (1 : Int32)) <<< (x0_3 &&& 31)) ^^^ (-1 : Int32))) ||| (x0_2 <<< (x0_3 &&& 31)))) 26 6 (0 : Int32))) rfl).trans ?_
    exact es_fin rfl rfl rfl
  · refine (es_st 2 (pc' := 44) (L' := [(3, .int (x0_3 + (1 : Int32))), (0, .ref 26), (1, .int x0_1), (2, .int x0_2)]) (S' := []) (h' := h2) rfl).trans ?_
    exact es_cut rfl rfl rfl
theorem sX1_step_0 (B : Bool) (d : Nat) (hd : 1 ≤ d) (h : SG) : mS B d 24 [.ref 26] h = kV (mS B (d - 1) 18 [.ref 26] h) (fun h1 => kV (mS B (d - 1) 25 [.ref 26] h1) (fun h2 => kV (mS B (d - 1) 180 [.ref 144, .ref 40] h2) (fun h3 => some (.inl (some (.int (sF (uF h3 26 6 (0 : Int32)) 144 3))), (uF h3 26 6 (0 : Int32)))))) := by
  obtain ⟨d, rfl⟩ : ∃ e, d = e + 1 := ⟨d - 1, by omega⟩
  show evS B (d + 1) 24 0 [(0, .ref 26)] [] h = _
  refine (es_st 1 (pc' := 1) (L' := [(0, .ref 26)]) (S' := [.ref 26]) (h' := h) rfl).trans ?_
  refine (es_cV (b := true) (k' := 18) (pc' := 4) (as := [.ref 26]) (S' := []) (L' := [(0, .ref 26)]) (h' := h) rfl rfl rfl rfl rfl).trans (kV_cg fun h1 => ?_)
  refine (es_st 1 (pc' := 5) (L' := [(0, .ref 26)]) (S' := [.ref 26]) (h' := h1) rfl).trans ?_
  refine (es_cV (b := true) (k' := 25) (pc' := 8) (as := [.ref 26]) (S' := []) (L' := [(0, .ref 26)]) (h' := h1) rfl rfl rfl rfl rfl).trans (kV_cg fun h2 => ?_)
  refine (es_st 4 (pc' := 16) (L' := [(0, .ref 26)]) (S' := [.ref 40, .ref 144]) (h' := h2) rfl).trans ?_
  refine (es_cV (b := true) (k' := 180) (pc' := 19) (as := [.ref 144, .ref 40]) (S' := []) (L' := [(0, .ref 26)]) (h' := h2) rfl rfl rfl rfl rfl).trans (kV_cg fun h3 => ?_)
  refine (es_st 6 (pc' := 31) (L' := [(0, .ref 26)]) (S' := [.int (sF (uF h3 26 6 (0 : Int32)) 144 3)]) (h' := (uF h3 26 6 (0 : Int32))) rfl).trans ?_
  exact es_fin rfl rfl rfl
theorem sX1_reckon_0 (B : Bool) (d : Nat) (hd : 1 ≤ d) (h : SG) : mS B d 25 [.ref 26] h = if (sF h 26 6) = 0 then kV (mS B (d - 1) 178 [.ref 144, .ref 40] h) (fun h1 => some (.inl none, (uF h1 26 6 (1 : Int32)))) else some (.inl none, (uF h 26 6 (1 : Int32))) := by
  obtain ⟨d, rfl⟩ : ∃ e, d = e + 1 := ⟨d - 1, by omega⟩
  show evS B (d + 1) 25 0 [(0, .ref 26)] [] h = _
  refine (es_st 2 (pc' := 4) (L' := [(0, .ref 26)]) (S' := [.int (sF h 26 6)]) (h' := h) rfl).trans ?_
  refine (zs_ne (t := 18) rfl rfl rfl).trans (if_cg ?_ ?_)
  · refine (es_st 4 (pc' := 15) (L' := [(0, .ref 26)]) (S' := [.ref 40, .ref 144]) (h' := h) rfl).trans ?_
    refine (es_cV (b := true) (k' := 178) (pc' := 18) (as := [.ref 144, .ref 40]) (S' := []) (L' := [(0, .ref 26)]) (h' := h) rfl rfl rfl rfl rfl).trans (kV_cg fun h1 => ?_)
    refine (es_st 3 (pc' := 23) (L' := [(0, .ref 26)]) (S' := []) (h' := (uF h1 26 6 (1 : Int32))) rfl).trans ?_
    exact es_fin rfl rfl rfl
  · refine (es_st 3 (pc' := 23) (L' := [(0, .ref 26)]) (S' := []) (h' := (uF h 26 6 (1 : Int32))) rfl).trans ?_
    exact es_fin rfl rfl rfl
theorem sX1_value_0 (B : Bool) (d : Nat) (hd : 1 ≤ d) (h : SG) (x0_1 : Int32) : mS B d 26 [.ref 26, .int x0_1] h = kV (mS B (d - 1) 21 [.ref 26, .int x0_1] h) (fun h1 => kV (mS B (d - 1) 25 [.ref 26] h1) (fun h2 => kJ (mS B (d - 1) 181 [.ref 144, .ref 40, .int x0_1] h2) (fun y4 h3 => some (.inl (some (.long y4)), h3)))) := by
  obtain ⟨d, rfl⟩ : ∃ e, d = e + 1 := ⟨d - 1, by omega⟩
  show evS B (d + 1) 26 0 [(0, .ref 26), (1, .int x0_1)] [] h = _
  refine (es_st 2 (pc' := 2) (L' := [(0, .ref 26), (1, .int x0_1)]) (S' := [.int x0_1, .ref 26]) (h' := h) rfl).trans ?_
  refine (es_cV (b := true) (k' := 21) (pc' := 5) (as := [.ref 26, .int x0_1]) (S' := []) (L' := [(0, .ref 26), (1, .int x0_1)]) (h' := h) rfl rfl rfl rfl rfl).trans (kV_cg fun h1 => ?_)
  refine (es_st 1 (pc' := 6) (L' := [(0, .ref 26), (1, .int x0_1)]) (S' := [.ref 26]) (h' := h1) rfl).trans ?_
  refine (es_cV (b := true) (k' := 25) (pc' := 9) (as := [.ref 26]) (S' := []) (L' := [(0, .ref 26), (1, .int x0_1)]) (h' := h1) rfl rfl rfl rfl rfl).trans (kV_cg fun h2 => ?_)
  refine (es_st 5 (pc' := 18) (L' := [(0, .ref 26), (1, .int x0_1)]) (S' := [.int x0_1, .ref 40, .ref 144]) (h' := h2) rfl).trans ?_
  refine (es_cJ (b := true) (k' := 181) (pc' := 21) (as := [.ref 144, .ref 40, .int x0_1]) (S' := []) (L' := [(0, .ref 26), (1, .int x0_1)]) (h' := h2) rfl rfl rfl rfl rfl).trans (kJ_cg fun y4 h3 => ?_)
  exact es_fin rfl rfl rfl
theorem sX1_failing_0 (B : Bool) (d : Nat) (hd : 4 ≤ d) (h : SG) : mS B d 27 [.ref 26] h = kV (mS B (d - 1) 18 [.ref 26] h) (fun h1 => kV (mS B (d - 1) 25 [.ref 26] h1) (fun h2 => evS B d 27 12 [(0, .ref 26), (1, .int (0 : Int32)), (2, .int (0 : Int32))] [] h2)) := by
  obtain ⟨d, rfl⟩ : ∃ e, d = e + 4 := ⟨d - 4, by omega⟩
  show evS B (d + 4) 27 0 [(0, .ref 26)] [] h = _
  refine (es_st 1 (pc' := 1) (L' := [(0, .ref 26)]) (S' := [.ref 26]) (h' := h) rfl).trans ?_
  refine (es_cV (b := true) (k' := 18) (pc' := 4) (as := [.ref 26]) (S' := []) (L' := [(0, .ref 26)]) (h' := h) rfl rfl rfl rfl rfl).trans (kV_cg fun h1 => ?_)
  refine (es_st 1 (pc' := 5) (L' := [(0, .ref 26)]) (S' := [.ref 26]) (h' := h1) rfl).trans ?_
  refine (es_cV (b := true) (k' := 25) (pc' := 8) (as := [.ref 26]) (S' := []) (L' := [(0, .ref 26)]) (h' := h1) rfl rfl rfl rfl rfl).trans (kV_cg fun h2 => ?_)
  refine (es_st 4 (pc' := 12) (L' := [(2, .int (0 : Int32)), (1, .int (0 : Int32)), (0, .ref 26)]) (S' := []) (h' := h2) rfl).trans ?_
  exact es_cut rfl rfl rfl
theorem sX1_failing_12 (B : Bool) (d : Nat) (hd : 4 ≤ d) (h : SG) (x0_1 : Int32) (x0_2 : Int32) : evS B d 27 12 [(0, .ref 26), (1, .int x0_1), (2, .int x0_2)] [] h = if (Int32.ofNat (sW h 83).length) ≤ x0_2 then some (.inl (some (.int x0_1)), h) else ob (rAt h 83 x0_2) (fun x1 => kI (mS B (d - 1) 179 [.ref 144, .int x1] h) (fun x3 h2 => if x3 = 0 then evS B d 27 12 [(0, .ref 26), (1, .int (x0_1 + (1 : Int32))), (2, .int (x0_2 + (1 : Int32)))] [] h2 else evS B d 27 12 [(0, .ref 26), (1, .int (x0_1 + (0 : Int32))), (2, .int (x0_2 + (1 : Int32)))] [] h2)) := by
  obtain ⟨d, rfl⟩ : ∃ e, d = e + 4 := ⟨d - 4, by omega⟩
  refine (es_st 5 (pc' := 23) (L' := [(0, .ref 26), (1, .int x0_1), (2, .int x0_2)]) (S' := [.int (Int32.ofNat (sW h 83).length), .int x0_2]) (h' := h) rfl).trans ?_
  refine (is_ge (t := 61) rfl rfl rfl).trans (if_cg ?_ ?_)
  · refine (es_st 1 (pc' := 62) (L' := [(0, .ref 26), (1, .int x0_1), (2, .int x0_2)]) (S' := [.int x0_1]) (h' := h) rfl).trans ?_
    exact es_fin rfl rfl rfl
  · refine (es_st 7 (pc' := 39) (L' := [(0, .ref 26), (1, .int x0_1), (2, .int x0_2)]) (S' := [.int x0_2, .ref 83, .ref 144, .int x0_1]) (h' := h) rfl).trans ?_
    refine (es_ob (o := rAt h 83 x0_2) (pc' := 42) (L' := [(0, .ref 26), (1, .int x0_1), (2, .int x0_2)]) (S' := fun z => [.int z, .ref 144, .int x0_1]) (h' := fun z => h) rfl rfl rfl).trans (ob_cg fun x1 => ?_)
    refine (es_cI (b := true) (k' := 179) (pc' := 45) (as := [.ref 144, .int x1]) (S' := [.int x0_1]) (L' := [(0, .ref 26), (1, .int x0_1), (2, .int x0_2)]) (h' := h) rfl rfl rfl rfl rfl).trans (kI_cg fun x3 h2 => ?_)
    refine (zs_ne (t := 52) rfl rfl rfl).trans (if_cg ?_ ?_)
    · refine (es_st 6 (pc' := 12) (L' := [(2, .int (x0_2 + (1 : Int32))), (1, .int (x0_1 + (1 : Int32))), (0, .ref 26)]) (S' := []) (h' := h2) rfl).trans ?_
      exact es_cut rfl rfl rfl
    · refine (es_st 5 (pc' := 12) (L' := [(2, .int (x0_2 + (1 : Int32))), (1, .int (x0_1 + (0 : Int32))), (0, .ref 26)]) (S' := []) (h' := h2) rfl).trans ?_
      exact es_cut rfl rfl rfl
theorem sX2_begin_0 (B : Bool) (d : Nat) (hd : 1 ≤ d) (h : SG) : mS B d 29 [.ref 27] h = kV (mS B (d - 1) 30 [.ref 27] (uF h 27 8 (0 : Int32))) (fun h1 => some (.inl none, h1)) := by
  obtain ⟨d, rfl⟩ : ∃ e, d = e + 1 := ⟨d - 1, by omega⟩
  show evS B (d + 1) 29 0 [(0, .ref 27)] [] h = _
  refine (es_st 4 (pc' := 6) (L' := [(0, .ref 27)]) (S' := [.ref 27]) (h' := (uF h 27 8 (0 : Int32))) rfl).trans ?_
  refine (es_cV (b := true) (k' := 30) (pc' := 9) (as := [.ref 27]) (S' := []) (L' := [(0, .ref 27)]) (h' := (uF h 27 8 (0 : Int32))) rfl rfl rfl rfl rfl).trans (kV_cg fun h1 => ?_)
  exact es_fin rfl rfl rfl
theorem sX2_next_0 (B : Bool) (d : Nat) (hd : 1 ≤ d) (h : SG) : mS B d 30 [.ref 27] h = kV (mS B (d - 1) 31 [.ref 27] h) (fun h1 => kI (mS B (d - 1) 32 [.ref 27, .int (sF (uF h1 27 7 (sF h1 27 8)) 27 7)] (uF h1 27 7 (sF h1 27 8))) (fun x3 h2 => if (sF h2 27 7) < (sF h2 27 3) then kI (mS B (d - 1) 34 [.int x3] h2) (fun x5 h4 => if x5 = 0 then kI (mS B (d - 1) 36 [.int x3] h4) (fun x7 h6 => if x7 = 0 then kV (mS B (d - 1) 42 [.ref 27, .int x3] h6) (fun h8 => some (.inl none, h8)) else evS B d 30 94 [(0, .ref 27)] [] h6) else evS B d 30 49 [(0, .ref 27)] [] h4) else some (.inl none, (uF h2 27 6 (256 : Int32))))) := by
  obtain ⟨d, rfl⟩ : ∃ e, d = e + 1 := ⟨d - 1, by omega⟩
  show evS B (d + 1) 30 0 [(0, .ref 27)] [] h = _
  refine (es_st 1 (pc' := 1) (L' := [(0, .ref 27)]) (S' := [.ref 27]) (h' := h) rfl).trans ?_
  refine (es_cV (b := true) (k' := 31) (pc' := 4) (as := [.ref 27]) (S' := []) (L' := [(0, .ref 27)]) (h' := h) rfl rfl rfl rfl rfl).trans (kV_cg fun h1 => ?_)
  refine (es_st 7 (pc' := 17) (L' := [(0, .ref 27)]) (S' := [.int (sF (uF h1 27 7 (sF h1 27 8)) 27 7), .ref 27]) (h' := (uF h1 27 7 (sF h1 27 8))) rfl).trans ?_
  refine (es_cI (b := true) (k' := 32) (pc' := 20) (as := [.ref 27, .int (sF (uF h1 27 7 (sF h1 27 8)) 27 7)]) (S' := []) (L' := [(0, .ref 27)]) (h' := (uF h1 27 7 (sF h1 27 8))) rfl rfl rfl rfl rfl).trans (kI_cg fun x3 h2 => ?_)
  refine (es_st 5 (pc' := 29) (L' := [(1, .int x3), (0, .ref 27)]) (S' := [.int (sF h2 27 3), .int (sF h2 27 7)]) (h' := h2) rfl).trans ?_
  refine (is_lt (t := 42) rfl rfl rfl).trans (if_cg ?_ ?_)
  · refine (es_st 1 (pc' := 43) (L' := [(1, .int x3), (0, .ref 27)]) (S' := [.int x3]) (h' := h2) rfl).trans ?_
    refine (es_cI (b := true) (k' := 34) (pc' := 46) (as := [.int x3]) (S' := []) (L' := [(1, .int x3), (0, .ref 27)]) (h' := h2) rfl rfl rfl rfl rfl).trans (kI_cg fun x5 h4 => ?_)
    refine (zs_eq (t := 87) rfl rfl rfl).trans (if_cg ?_ ?_)
    · refine (es_st 1 (pc' := 88) (L' := [(1, .int x3), (0, .ref 27)]) (S' := [.int x3]) (h' := h4) rfl).trans ?_
      refine (es_cI (b := true) (k' := 36) (pc' := 91) (as := [.int x3]) (S' := []) (L' := [(1, .int x3), (0, .ref 27)]) (h' := h4) rfl rfl rfl rfl rfl).trans (kI_cg fun x7 h6 => ?_)
      refine (zs_eq (t := 148) rfl rfl rfl).trans (if_cg ?_ ?_)
      · refine (es_st 2 (pc' := 150) (L' := [(1, .int x3), (0, .ref 27)]) (S' := [.int x3, .ref 27]) (h' := h6) rfl).trans ?_
        refine (es_cV (b := true) (k' := 42) (pc' := 153) (as := [.ref 27, .int x3]) (S' := []) (L' := [(1, .int x3), (0, .ref 27)]) (h' := h6) rfl rfl rfl rfl rfl).trans (kV_cg fun h8 => ?_)
        exact es_fin rfl rfl rfl
      · exact es_cut rfl rfl rfl
    · exact es_cut rfl rfl rfl
  · refine (es_st 4 (pc' := 153) (L' := [(1, .int x3), (0, .ref 27)]) (S' := []) (h' := (uF h2 27 6 (256 : Int32))) rfl).trans ?_
    exact es_fin rfl rfl rfl
theorem sX2_next_49 (B : Bool) (d : Nat) (hd : 1 ≤ d) (h : SG) : evS B d 30 49 [(0, .ref 27)] [] h = kI (mS B (d - 1) 32 [.ref 27, .int (sF h 27 8)] h) (fun x2 h1 => kI (mS B (d - 1) 35 [.int x2] h1) (fun x4 h3 => if x4 = 0 then kI (mS B (d - 1) 37 [.ref 27] h3) (fun x6 h5 => some (.inl none, (uF h5 27 6 x6))) else evS B d 30 49 [(0, .ref 27)] [] (uF h3 27 8 ((sF h3 27 8) + (1 : Int32))))) := by
  obtain ⟨d, rfl⟩ : ∃ e, d = e + 1 := ⟨d - 1, by omega⟩
  refine (es_st 3 (pc' := 54) (L' := [(0, .ref 27)]) (S' := [.int (sF h 27 8), .ref 27]) (h' := h) rfl).trans ?_
  refine (es_cI (b := true) (k' := 32) (pc' := 57) (as := [.ref 27, .int (sF h 27 8)]) (S' := []) (L' := [(0, .ref 27)]) (h' := h) rfl rfl rfl rfl rfl).trans (kI_cg fun x2 h1 => ?_)
  refine (es_cI (b := true) (k' := 35) (pc' := 60) (as := [.int x2]) (S' := []) (L' := [(0, .ref 27)]) (h' := h1) rfl rfl rfl rfl rfl).trans (kI_cg fun x4 h3 => ?_)
  refine (zs_eq (t := 76) rfl rfl rfl).trans (if_cg ?_ ?_)
  · refine (es_st 2 (pc' := 78) (L' := [(0, .ref 27)]) (S' := [.ref 27, .ref 27]) (h' := h3) rfl).trans ?_
    refine (es_cI (b := true) (k' := 37) (pc' := 81) (as := [.ref 27]) (S' := [.ref 27]) (L' := [(0, .ref 27)]) (h' := h3) rfl rfl rfl rfl rfl).trans (kI_cg fun x6 h5 => ?_)
    refine (es_st 2 (pc' := 153) (L' := [(0, .ref 27)]) (S' := []) (h' := (uF h5 27 6 x6)) rfl).trans ?_
    exact es_fin rfl rfl rfl
  · refine (es_st 7 (pc' := 49) (L' := [(0, .ref 27)]) (S' := []) (h' := (uF h3 27 8 ((sF h3 27 8) + (1 : Int32)))) rfl).trans ?_
    exact es_cut rfl rfl rfl
theorem sX2_next_94 (B : Bool) (d : Nat) (hd : 1 ≤ d) (h : SG) : evS B d 30 94 [(0, .ref 27)] [] h = kI (mS B (d - 1) 32 [.ref 27, .int (sF h 27 8)] h) (fun x2 h1 => kI (mS B (d - 1) 35 [.int x2] h1) (fun x4 h3 => if x4 = 0 then kI (mS B (d - 1) 32 [.ref 27, .int (sF h3 27 8)] h3) (fun x6 h5 => if x6 = (39 : Int32) then kI (mS B (d - 1) 38 [.ref 27] h5) (fun x9 h8 => if x9 = 0 then evS B d 30 94 [(0, .ref 27)] [] (uF h8 27 8 ((sF h8 27 8) + (1 : Int32))) else kV (mS B (d - 1) 39 [.ref 27] h8) (fun h10 => some (.inl none, h10))) else kV (mS B (d - 1) 39 [.ref 27] h5) (fun h7 => some (.inl none, h7))) else evS B d 30 94 [(0, .ref 27)] [] (uF h3 27 8 ((sF h3 27 8) + (1 : Int32))))) := by
  obtain ⟨d, rfl⟩ : ∃ e, d = e + 1 := ⟨d - 1, by omega⟩
  refine (es_st 3 (pc' := 99) (L' := [(0, .ref 27)]) (S' := [.int (sF h 27 8), .ref 27]) (h' := h) rfl).trans ?_
  refine (es_cI (b := true) (k' := 32) (pc' := 102) (as := [.ref 27, .int (sF h 27 8)]) (S' := []) (L' := [(0, .ref 27)]) (h' := h) rfl rfl rfl rfl rfl).trans (kI_cg fun x2 h1 => ?_)
  refine (es_cI (b := true) (k' := 35) (pc' := 105) (as := [.int x2]) (S' := []) (L' := [(0, .ref 27)]) (h' := h1) rfl rfl rfl rfl rfl).trans (kI_cg fun x4 h3 => ?_)
  refine (zs_ne (t := 128) rfl rfl rfl).trans (if_cg ?_ ?_)
  · refine (es_st 3 (pc' := 113) (L' := [(0, .ref 27)]) (S' := [.int (sF h3 27 8), .ref 27]) (h' := h3) rfl).trans ?_
    refine (es_cI (b := true) (k' := 32) (pc' := 116) (as := [.ref 27, .int (sF h3 27 8)]) (S' := []) (L' := [(0, .ref 27)]) (h' := h3) rfl rfl rfl rfl rfl).trans (kI_cg fun x6 h5 => ?_)
    refine (es_st 1 (pc' := 118) (L' := [(0, .ref 27)]) (S' := [.int (39 : Int32), .int x6]) (h' := h5) rfl).trans ?_
    refine (is_ne (t := 141) rfl rfl rfl).trans (if_cg ?_ ?_)
    · refine (es_st 1 (pc' := 122) (L' := [(0, .ref 27)]) (S' := [.ref 27]) (h' := h5) rfl).trans ?_
      refine (es_cI (b := true) (k' := 38) (pc' := 125) (as := [.ref 27]) (S' := []) (L' := [(0, .ref 27)]) (h' := h5) rfl rfl rfl rfl rfl).trans (kI_cg fun x9 h8 => ?_)
      refine (zs_ne (t := 141) rfl rfl rfl).trans (if_cg ?_ ?_)
      · refine (es_st 7 (pc' := 94) (L' := [(0, .ref 27)]) (S' := []) (h' := (uF h8 27 8 ((sF h8 27 8) + (1 : Int32)))) rfl).trans ?_
        exact es_cut rfl rfl rfl
      · refine (es_st 1 (pc' := 142) (L' := [(0, .ref 27)]) (S' := [.ref 27]) (h' := h8) rfl).trans ?_
        refine (es_cV (b := true) (k' := 39) (pc' := 145) (as := [.ref 27]) (S' := []) (L' := [(0, .ref 27)]) (h' := h8) rfl rfl rfl rfl rfl).trans (kV_cg fun h10 => ?_)
        refine (es_st 1 (pc' := 153) (L' := [(0, .ref 27)]) (S' := []) (h' := h10) rfl).trans ?_
        exact es_fin rfl rfl rfl
    · refine (es_st 1 (pc' := 142) (L' := [(0, .ref 27)]) (S' := [.ref 27]) (h' := h5) rfl).trans ?_
      refine (es_cV (b := true) (k' := 39) (pc' := 145) (as := [.ref 27]) (S' := []) (L' := [(0, .ref 27)]) (h' := h5) rfl rfl rfl rfl rfl).trans (kV_cg fun h7 => ?_)
      refine (es_st 1 (pc' := 153) (L' := [(0, .ref 27)]) (S' := []) (h' := h7) rfl).trans ?_
      exact es_fin rfl rfl rfl
  · refine (es_st 7 (pc' := 94) (L' := [(0, .ref 27)]) (S' := []) (h' := (uF h3 27 8 ((sF h3 27 8) + (1 : Int32)))) rfl).trans ?_
    exact es_cut rfl rfl rfl
theorem sX2_blanks_0 (B : Bool) (d : Nat) (hd : 1 ≤ d) (h : SG) : mS B d 31 [.ref 27] h = evS B d 31 2 [(0, .ref 27), (1, .int (1 : Int32))] [] h := by
  obtain ⟨d, rfl⟩ : ∃ e, d = e + 1 := ⟨d - 1, by omega⟩
  show evS B (d + 1) 31 0 [(0, .ref 27)] [] h = _
  refine (es_st 2 (pc' := 2) (L' := [(1, .int (1 : Int32)), (0, .ref 27)]) (S' := []) (h' := h) rfl).trans ?_
  exact es_cut rfl rfl rfl
theorem sX2_blanks_2 (B : Bool) (d : Nat) (hd : 1 ≤ d) (h : SG) (x0_1 : Int32) : evS B d 31 2 [(0, .ref 27), (1, .int x0_1)] [] h = if x0_1 = 0 then some (.inl none, h) else kI (mS B (d - 1) 32 [.ref 27, .int (sF h 27 8)] h) (fun x2 h1 => if (sF h1 27 3) ≤ (sF h1 27 8) then if x2 = (47 : Int32) then kI (mS B (d - 1) 32 [.ref 27, .int ((sF h1 27 8) + (1 : Int32))] h1) (fun x4 h3 => if x4 = (47 : Int32) then evS B d 31 84 [(0, .ref 27), (1, .int x0_1)] [] h3 else evS B d 31 121 [(0, .ref 27), (1, .int x0_1), (2, .int x2)] [] h3) else evS B d 31 121 [(0, .ref 27), (1, .int x0_1), (2, .int x2)] [] h1 else if x2 = (32 : Int32) then evS B d 31 2 [(0, .ref 27), (1, .int x0_1)] [] (uF h1 27 8 ((sF h1 27 8) + (1 : Int32))) else if x2 = (9 : Int32) then evS B d 31 2 [(0, .ref 27), (1, .int x0_1)] [] (uF h1 27 8 ((sF h1 27 8) + (1 : Int32))) else if x2 = (10 : Int32) then evS B d 31 2 [(0, .ref 27), (1, .int x0_1)] [] (uF h1 27 8 ((sF h1 27 8) + (1 : Int32))) else if x2 = (13 : Int32) then evS B d 31 2 [(0, .ref 27), (1, .int x0_1)] [] (uF h1 27 8 ((sF h1 27 8) + (1 : Int32))) else if x2 = (47 : Int32) then kI (mS B (d - 1) 32 [.ref 27, .int ((sF h1 27 8) + (1 : Int32))] h1) (fun x6 h5 => if x6 = (47 : Int32) then evS B d 31 84 [(0, .ref 27), (1, .int x0_1)] [] h5 else evS B d 31 121 [(0, .ref 27), (1, .int x0_1), (2, .int x2)] [] h5) else evS B d 31 121 [(0, .ref 27), (1, .int x0_1), (2, .int x2)] [] h1) := by
  obtain ⟨d, rfl⟩ : ∃ e, d = e + 1 := ⟨d - 1, by omega⟩
  refine (es_st 1 (pc' := 3) (L' := [(0, .ref 27), (1, .int x0_1)]) (S' := [.int x0_1]) (h' := h) rfl).trans ?_
  refine (zs_eq (t := 218) rfl rfl rfl).trans (if_cg ?_ ?_)
  · exact es_fin rfl rfl rfl
  · refine (es_st 3 (pc' := 11) (L' := [(0, .ref 27), (1, .int x0_1)]) (S' := [.int (sF h 27 8), .ref 27]) (h' := h) rfl).trans ?_
    refine (es_cI (b := true) (k' := 32) (pc' := 14) (as := [.ref 27, .int (sF h 27 8)]) (S' := []) (L' := [(0, .ref 27), (1, .int x0_1)]) (h' := h) rfl rfl rfl rfl rfl).trans (kI_cg fun x2 h1 => ?_)
    refine (es_st 5 (pc' := 23) (L' := [(2, .int x2), (0, .ref 27), (1, .int x0_1)]) (S' := [.int (sF h1 27 3), .int (sF h1 27 8)]) (h' := h1) rfl).trans ?_
    refine (is_ge (t := 63) rfl rfl rfl).trans (if_cg ?_ ?_)
    · refine (es_st 2 (pc' := 66) (L' := [(2, .int x2), (0, .ref 27), (1, .int x0_1)]) (S' := [.int (47 : Int32), .int x2]) (h' := h1) rfl).trans ?_
      refine (is_ne (t := 121) rfl rfl rfl).trans (if_cg ?_ ?_)
      · refine (es_st 5 (pc' := 76) (L' := [(2, .int x2), (0, .ref 27), (1, .int x0_1)]) (S' := [.int ((sF h1 27 8) + (1 : Int32)), .ref 27]) (h' := h1) rfl).trans ?_
        refine (es_cI (b := true) (k' := 32) (pc' := 79) (as := [.ref 27, .int ((sF h1 27 8) + (1 : Int32))]) (S' := []) (L' := [(2, .int x2), (0, .ref 27), (1, .int x0_1)]) (h' := h1) rfl rfl rfl rfl rfl).trans (kI_cg fun x4 h3 => ?_)
        refine (es_st 1 (pc' := 81) (L' := [(2, .int x2), (0, .ref 27), (1, .int x0_1)]) (S' := [.int (47 : Int32), .int x4]) (h' := h3) rfl).trans ?_
        refine (is_ne (t := 121) rfl rfl rfl).trans (if_cg ?_ ?_)
        · exact es_cut rfl rfl rfl
        · exact es_cut rfl rfl rfl
      · exact es_cut rfl rfl rfl
    · refine (es_st 2 (pc' := 29) (L' := [(2, .int x2), (0, .ref 27), (1, .int x0_1)]) (S' := [.int (32 : Int32), .int x2]) (h' := h1) rfl).trans ?_
      refine (is_eq (t := 50) rfl rfl rfl).trans (if_cg ?_ ?_)
      · refine (es_st 8 (pc' := 2) (L' := [(2, .int x2), (0, .ref 27), (1, .int x0_1)]) (S' := []) (h' := (uF h1 27 8 ((sF h1 27 8) + (1 : Int32)))) rfl).trans ?_
        exact es_cut rfl rfl rfl
      · refine (es_st 2 (pc' := 35) (L' := [(2, .int x2), (0, .ref 27), (1, .int x0_1)]) (S' := [.int (9 : Int32), .int x2]) (h' := h1) rfl).trans ?_
        refine (is_eq (t := 50) rfl rfl rfl).trans (if_cg ?_ ?_)
        · refine (es_st 8 (pc' := 2) (L' := [(2, .int x2), (0, .ref 27), (1, .int x0_1)]) (S' := []) (h' := (uF h1 27 8 ((sF h1 27 8) + (1 : Int32)))) rfl).trans ?_
          exact es_cut rfl rfl rfl
        · refine (es_st 2 (pc' := 41) (L' := [(2, .int x2), (0, .ref 27), (1, .int x0_1)]) (S' := [.int (10 : Int32), .int x2]) (h' := h1) rfl).trans ?_
          refine (is_eq (t := 50) rfl rfl rfl).trans (if_cg ?_ ?_)
          · refine (es_st 8 (pc' := 2) (L' := [(2, .int x2), (0, .ref 27), (1, .int x0_1)]) (S' := []) (h' := (uF h1 27 8 ((sF h1 27 8) + (1 : Int32)))) rfl).trans ?_
            exact es_cut rfl rfl rfl
          · refine (es_st 2 (pc' := 47) (L' := [(2, .int x2), (0, .ref 27), (1, .int x0_1)]) (S' := [.int (13 : Int32), .int x2]) (h' := h1) rfl).trans ?_
            refine (is_ne (t := 63) rfl rfl rfl).trans (if_cg ?_ ?_)
            · refine (es_st 8 (pc' := 2) (L' := [(2, .int x2), (0, .ref 27), (1, .int x0_1)]) (S' := []) (h' := (uF h1 27 8 ((sF h1 27 8) + (1 : Int32)))) rfl).trans ?_
              exact es_cut rfl rfl rfl
            · refine (es_st 2 (pc' := 66) (L' := [(2, .int x2), (0, .ref 27), (1, .int x0_1)]) (S' := [.int (47 : Int32), .int x2]) (h' := h1) rfl).trans ?_
              refine (is_ne (t := 121) rfl rfl rfl).trans (if_cg ?_ ?_)
              · refine (es_st 5 (pc' := 76) (L' := [(2, .int x2), (0, .ref 27), (1, .int x0_1)]) (S' := [.int ((sF h1 27 8) + (1 : Int32)), .ref 27]) (h' := h1) rfl).trans ?_
                refine (es_cI (b := true) (k' := 32) (pc' := 79) (as := [.ref 27, .int ((sF h1 27 8) + (1 : Int32))]) (S' := []) (L' := [(2, .int x2), (0, .ref 27), (1, .int x0_1)]) (h' := h1) rfl rfl rfl rfl rfl).trans (kI_cg fun x6 h5 => ?_)
                refine (es_st 1 (pc' := 81) (L' := [(2, .int x2), (0, .ref 27), (1, .int x0_1)]) (S' := [.int (47 : Int32), .int x6]) (h' := h5) rfl).trans ?_
                refine (is_ne (t := 121) rfl rfl rfl).trans (if_cg ?_ ?_)
                · exact es_cut rfl rfl rfl
                · exact es_cut rfl rfl rfl
              · exact es_cut rfl rfl rfl
theorem sX2_blanks_84 (B : Bool) (d : Nat) (hd : 1 ≤ d) (h : SG) (x0_1 : Int32) : evS B d 31 84 [(0, .ref 27), (1, .int x0_1)] [] h = if (sF h 27 3) ≤ (sF h 27 8) then evS B d 31 2 [(0, .ref 27), (1, .int x0_1)] [] h else kI (mS B (d - 1) 32 [.ref 27, .int (sF h 27 8)] h) (fun x2 h1 => if x2 = (10 : Int32) then evS B d 31 2 [(0, .ref 27), (1, .int x0_1)] [] h1 else evS B d 31 84 [(0, .ref 27), (1, .int x0_1)] [] (uF h1 27 8 ((sF h1 27 8) + (1 : Int32)))) := by
  obtain ⟨d, rfl⟩ : ∃ e, d = e + 1 := ⟨d - 1, by omega⟩
  refine (es_st 4 (pc' := 92) (L' := [(0, .ref 27), (1, .int x0_1)]) (S' := [.int (sF h 27 3), .int (sF h 27 8)]) (h' := h) rfl).trans ?_
  refine (is_ge (t := 215) rfl rfl rfl).trans (if_cg ?_ ?_)
  · refine (es_st 1 (pc' := 2) (L' := [(0, .ref 27), (1, .int x0_1)]) (S' := []) (h' := h) rfl).trans ?_
    exact es_cut rfl rfl rfl
  · refine (es_st 3 (pc' := 100) (L' := [(0, .ref 27), (1, .int x0_1)]) (S' := [.int (sF h 27 8), .ref 27]) (h' := h) rfl).trans ?_
    refine (es_cI (b := true) (k' := 32) (pc' := 103) (as := [.ref 27, .int (sF h 27 8)]) (S' := []) (L' := [(0, .ref 27), (1, .int x0_1)]) (h' := h) rfl rfl rfl rfl rfl).trans (kI_cg fun x2 h1 => ?_)
    refine (es_st 1 (pc' := 105) (L' := [(0, .ref 27), (1, .int x0_1)]) (S' := [.int (10 : Int32), .int x2]) (h' := h1) rfl).trans ?_
    refine (is_eq (t := 215) rfl rfl rfl).trans (if_cg ?_ ?_)
    · refine (es_st 1 (pc' := 2) (L' := [(0, .ref 27), (1, .int x0_1)]) (S' := []) (h' := h1) rfl).trans ?_
      exact es_cut rfl rfl rfl
    · refine (es_st 7 (pc' := 84) (L' := [(0, .ref 27), (1, .int x0_1)]) (S' := []) (h' := (uF h1 27 8 ((sF h1 27 8) + (1 : Int32)))) rfl).trans ?_
      exact es_cut rfl rfl rfl
theorem sX2_blanks_121 (B : Bool) (d : Nat) (hd : 1 ≤ d) (h : SG) (x0_1 : Int32) (x0_2 : Int32) : evS B d 31 121 [(0, .ref 27), (1, .int x0_1), (2, .int x0_2)] [] h = if x0_2 = (47 : Int32) then kI (mS B (d - 1) 32 [.ref 27, .int ((sF h 27 8) + (1 : Int32))] h) (fun x2 h1 => if x2 = (42 : Int32) then evS B d 31 149 [(0, .ref 27), (1, .int x0_1), (3, .int ((sF h1 27 8) + (2 : Int32)))] [] h1 else evS B d 31 2 [(0, .ref 27), (1, .int (0 : Int32))] [] h1) else evS B d 31 2 [(0, .ref 27), (1, .int (0 : Int32))] [] h := by
  obtain ⟨d, rfl⟩ : ∃ e, d = e + 1 := ⟨d - 1, by omega⟩
  refine (es_st 2 (pc' := 124) (L' := [(0, .ref 27), (1, .int x0_1), (2, .int x0_2)]) (S' := [.int (47 : Int32), .int x0_2]) (h' := h) rfl).trans ?_
  refine (is_ne (t := 213) rfl rfl rfl).trans (if_cg ?_ ?_)
  · refine (es_st 5 (pc' := 134) (L' := [(0, .ref 27), (1, .int x0_1), (2, .int x0_2)]) (S' := [.int ((sF h 27 8) + (1 : Int32)), .ref 27]) (h' := h) rfl).trans ?_
    refine (es_cI (b := true) (k' := 32) (pc' := 137) (as := [.ref 27, .int ((sF h 27 8) + (1 : Int32))]) (S' := []) (L' := [(0, .ref 27), (1, .int x0_1), (2, .int x0_2)]) (h' := h) rfl rfl rfl rfl rfl).trans (kI_cg fun x2 h1 => ?_)
    refine (es_st 1 (pc' := 139) (L' := [(0, .ref 27), (1, .int x0_1), (2, .int x0_2)]) (S' := [.int (42 : Int32), .int x2]) (h' := h1) rfl).trans ?_
    refine (is_ne (t := 213) rfl rfl rfl).trans (if_cg ?_ ?_)
    · refine (es_st 5 (pc' := 149) (L' := [(3, .int ((sF h1 27 8) + (2 : Int32))), (0, .ref 27), (1, .int x0_1), (2, .int x0_2)]) (S' := []) (h' := h1) rfl).trans ?_
      exact es_cut rfl rfl rfl
    · refine (es_st 3 (pc' := 2) (L' := [(1, .int (0 : Int32)), (0, .ref 27), (2, .int x0_2)]) (S' := []) (h' := h1) rfl).trans ?_
      exact es_cut rfl rfl rfl
  · refine (es_st 3 (pc' := 2) (L' := [(1, .int (0 : Int32)), (0, .ref 27), (2, .int x0_2)]) (S' := []) (h' := h) rfl).trans ?_
    exact es_cut rfl rfl rfl
theorem sX2_blanks_149 (B : Bool) (d : Nat) (hd : 1 ≤ d) (h : SG) (x0_1 : Int32) (x0_3 : Int32) : evS B d 31 149 [(0, .ref 27), (1, .int x0_1), (3, .int x0_3)] [] h = if (sF h 27 3) ≤ x0_3 then evS B d 31 185 [(0, .ref 27), (1, .int x0_1), (3, .int x0_3)] [] h else kI (mS B (d - 1) 32 [.ref 27, .int x0_3] h) (fun x2 h1 => if x2 = (42 : Int32) then kI (mS B (d - 1) 32 [.ref 27, .int (x0_3 + (1 : Int32))] h1) (fun x4 h3 => if x4 = (47 : Int32) then evS B d 31 185 [(0, .ref 27), (1, .int x0_1), (3, .int x0_3)] [] h3 else evS B d 31 149 [(0, .ref 27), (1, .int x0_1), (3, .int (x0_3 + (1 : Int32)))] [] h3) else evS B d 31 149 [(0, .ref 27), (1, .int x0_1), (3, .int (x0_3 + (1 : Int32)))] [] h1) := by
  obtain ⟨d, rfl⟩ : ∃ e, d = e + 1 := ⟨d - 1, by omega⟩
  refine (es_st 3 (pc' := 154) (L' := [(0, .ref 27), (1, .int x0_1), (3, .int x0_3)]) (S' := [.int (sF h 27 3), .int x0_3]) (h' := h) rfl).trans ?_
  refine (is_ge (t := 185) rfl rfl rfl).trans (if_cg ?_ ?_)
  · exact es_cut rfl rfl rfl
  · refine (es_st 2 (pc' := 159) (L' := [(0, .ref 27), (1, .int x0_1), (3, .int x0_3)]) (S' := [.int x0_3, .ref 27]) (h' := h) rfl).trans ?_
    refine (es_cI (b := true) (k' := 32) (pc' := 162) (as := [.ref 27, .int x0_3]) (S' := []) (L' := [(0, .ref 27), (1, .int x0_1), (3, .int x0_3)]) (h' := h) rfl rfl rfl rfl rfl).trans (kI_cg fun x2 h1 => ?_)
    refine (es_st 1 (pc' := 164) (L' := [(0, .ref 27), (1, .int x0_1), (3, .int x0_3)]) (S' := [.int (42 : Int32), .int x2]) (h' := h1) rfl).trans ?_
    refine (is_ne (t := 179) rfl rfl rfl).trans (if_cg ?_ ?_)
    · refine (es_st 4 (pc' := 171) (L' := [(0, .ref 27), (1, .int x0_1), (3, .int x0_3)]) (S' := [.int (x0_3 + (1 : Int32)), .ref 27]) (h' := h1) rfl).trans ?_
      refine (es_cI (b := true) (k' := 32) (pc' := 174) (as := [.ref 27, .int (x0_3 + (1 : Int32))]) (S' := []) (L' := [(0, .ref 27), (1, .int x0_1), (3, .int x0_3)]) (h' := h1) rfl rfl rfl rfl rfl).trans (kI_cg fun x4 h3 => ?_)
      refine (es_st 1 (pc' := 176) (L' := [(0, .ref 27), (1, .int x0_1), (3, .int x0_3)]) (S' := [.int (47 : Int32), .int x4]) (h' := h3) rfl).trans ?_
      refine (is_eq (t := 185) rfl rfl rfl).trans (if_cg ?_ ?_)
      · exact es_cut rfl rfl rfl
      · refine (es_st 2 (pc' := 149) (L' := [(3, .int (x0_3 + (1 : Int32))), (0, .ref 27), (1, .int x0_1)]) (S' := []) (h' := h3) rfl).trans ?_
        exact es_cut rfl rfl rfl
    · refine (es_st 2 (pc' := 149) (L' := [(3, .int (x0_3 + (1 : Int32))), (0, .ref 27), (1, .int x0_1)]) (S' := []) (h' := h1) rfl).trans ?_
      exact es_cut rfl rfl rfl
theorem sX2_blanks_185 (B : Bool) (d : Nat) (hd : 1 ≤ d) (h : SG) (x0_1 : Int32) (x0_3 : Int32) : evS B d 31 185 [(0, .ref 27), (1, .int x0_1), (3, .int x0_3)] [] h = if x0_3 < (sF h 27 3) then evS B d 31 2 [(0, .ref 27), (1, .int x0_1)] [] (uF h 27 8 (x0_3 + (2 : Int32))) else kR (mS B (d - 1) 33 [.ref 27, .int (1 : Int32), .int (sF h 27 8)] h) (fun a2 h1 => ckS (Nat.beq a2 29) (some (.inr 0, h1))) := by
  obtain ⟨d, rfl⟩ : ∃ e, d = e + 1 := ⟨d - 1, by omega⟩
  refine (es_st 3 (pc' := 190) (L' := [(0, .ref 27), (1, .int x0_1), (3, .int x0_3)]) (S' := [.int (sF h 27 3), .int x0_3]) (h' := h) rfl).trans ?_
  refine (is_lt (t := 203) rfl rfl rfl).trans (if_cg ?_ ?_)
  · refine (es_st 7 (pc' := 2) (L' := [(0, .ref 27), (1, .int x0_1), (3, .int x0_3)]) (S' := []) (h' := (uF h 27 8 (x0_3 + (2 : Int32)))) rfl).trans ?_
    exact es_cut rfl rfl rfl
  · refine (es_st 4 (pc' := 199) (L' := [(0, .ref 27), (1, .int x0_1), (3, .int x0_3)]) (S' := [.int (sF h 27 8), .int (1 : Int32), .ref 27]) (h' := h) rfl).trans ?_
    refine (es_cR (b := true) (k' := 33) (pc' := 202) (as := [.ref 27, .int (1 : Int32), .int (sF h 27 8)]) (S' := []) (L' := [(0, .ref 27), (1, .int x0_1), (3, .int x0_3)]) (h' := h) rfl rfl rfl rfl rfl).trans (kR_cg fun a2 h1 => ?_)
    exact es_thr rfl rfl rfl
theorem sX2_at_0 (B : Bool) (d : Nat) (h : SG) (x0_1 : Int32) : mS B d 32 [.ref 27, .int x0_1] h = if (sF h 27 3) ≤ x0_1 then some (.inl (some (.int (0 : Int32))), h) else if ixN x0_1 65536 = true then some (.inl (some (.int ((sF h 30 x0_1.toNatClampNeg) &&& (255 : Int32)))), h) else none := by
  show evS B d 32 0 [(0, .ref 27), (1, .int x0_1)] [] h = _
  refine (es_st 3 (pc' := 5) (L' := [(0, .ref 27), (1, .int x0_1)]) (S' := [.int (sF h 27 3), .int x0_1]) (h' := h) rfl).trans ?_
  refine (is_ge (t := 21) rfl rfl rfl).trans (if_cg ?_ ?_)
  · refine (es_st 1 (pc' := 22) (L' := [(0, .ref 27), (1, .int x0_1)]) (S' := [.int (0 : Int32)]) (h' := h) rfl).trans ?_
    exact es_fin rfl rfl rfl
  · refine (es_st 3 (pc' := 13) (L' := [(0, .ref 27), (1, .int x0_1)]) (S' := [.int x0_1, .ref 30]) (h' := h) rfl).trans ?_
    refine (es_ix (c := ixN x0_1 65536 = true) (x := (sF h 30 x0_1.toNatClampNeg)) (pc' := 14) (L' := [(0, .ref 27), (1, .int x0_1)]) (S' := fun z => [.int z]) (h' := fun z => h) rfl rfl rfl).trans (if_cgn ?_)
    refine (es_st 3 (pc' := 22) (L' := [(0, .ref 27), (1, .int x0_1)]) (S' := [.int ((sF h 30 x0_1.toNatClampNeg) &&& (255 : Int32))]) (h' := h) rfl).trans ?_
    exact es_fin rfl rfl rfl
theorem sX2_flaw_0 (B : Bool) (d : Nat) (h : SG) (x0_1 : Int32) (x0_2 : Int32) : mS B d 33 [.ref 27, .int x0_1, .int x0_2] h = some (.inl (some (.ref 29)), (uF (uF h 27 4 x0_1) 27 5 x0_2)) := by
  show evS B d 33 0 [(0, .ref 27), (1, .int x0_1), (2, .int x0_2)] [] h = _
  refine (es_st 8 (pc' := 14) (L' := [(0, .ref 27), (1, .int x0_1), (2, .int x0_2)]) (S' := [.ref 29]) (h' := (uF (uF h 27 4 x0_1) 27 5 x0_2)) rfl).trans ?_
  exact es_fin rfl rfl rfl
theorem sX2_isLetter_0 (B : Bool) (d : Nat) (h : SG) (x0_0 : Int32) : mS B d 34 [.int x0_0] h = if x0_0 < (97 : Int32) then evS B d 34 12 [(0, .int x0_0)] [] h else if x0_0 ≤ (122 : Int32) then some (.inl (some (.int (1 : Int32))), h) else evS B d 34 12 [(0, .int x0_0)] [] h := by
  show evS B d 34 0 [(0, .int x0_0)] [] h = _
  refine (es_st 2 (pc' := 3) (L' := [(0, .int x0_0)]) (S' := [.int (97 : Int32), .int x0_0]) (h' := h) rfl).trans ?_
  refine (is_lt (t := 12) rfl rfl rfl).trans (if_cg ?_ ?_)
  · exact es_cut rfl rfl rfl
  · refine (es_st 2 (pc' := 9) (L' := [(0, .int x0_0)]) (S' := [.int (122 : Int32), .int x0_0]) (h' := h) rfl).trans ?_
    refine (is_le (t := 30) rfl rfl rfl).trans (if_cg ?_ ?_)
    · refine (es_st 2 (pc' := 35) (L' := [(0, .int x0_0)]) (S' := [.int (1 : Int32)]) (h' := h) rfl).trans ?_
      exact es_fin rfl rfl rfl
    · exact es_cut rfl rfl rfl
theorem sX2_isLetter_12 (B : Bool) (d : Nat) (h : SG) (x0_0 : Int32) : evS B d 34 12 [(0, .int x0_0)] [] h = if x0_0 < (65 : Int32) then if x0_0 = (95 : Int32) then some (.inl (some (.int (1 : Int32))), h) else some (.inl (some (.int (0 : Int32))), h) else if x0_0 ≤ (90 : Int32) then some (.inl (some (.int (1 : Int32))), h) else if x0_0 = (95 : Int32) then some (.inl (some (.int (1 : Int32))), h) else some (.inl (some (.int (0 : Int32))), h) := by
  refine (es_st 2 (pc' := 15) (L' := [(0, .int x0_0)]) (S' := [.int (65 : Int32), .int x0_0]) (h' := h) rfl).trans ?_
  refine (is_lt (t := 24) rfl rfl rfl).trans (if_cg ?_ ?_)
  · refine (es_st 2 (pc' := 27) (L' := [(0, .int x0_0)]) (S' := [.int (95 : Int32), .int x0_0]) (h' := h) rfl).trans ?_
    refine (is_ne (t := 34) rfl rfl rfl).trans (if_cg ?_ ?_)
    · refine (es_st 2 (pc' := 35) (L' := [(0, .int x0_0)]) (S' := [.int (1 : Int32)]) (h' := h) rfl).trans ?_
      exact es_fin rfl rfl rfl
    · refine (es_st 1 (pc' := 35) (L' := [(0, .int x0_0)]) (S' := [.int (0 : Int32)]) (h' := h) rfl).trans ?_
      exact es_fin rfl rfl rfl
  · refine (es_st 2 (pc' := 21) (L' := [(0, .int x0_0)]) (S' := [.int (90 : Int32), .int x0_0]) (h' := h) rfl).trans ?_
    refine (is_le (t := 30) rfl rfl rfl).trans (if_cg ?_ ?_)
    · refine (es_st 2 (pc' := 35) (L' := [(0, .int x0_0)]) (S' := [.int (1 : Int32)]) (h' := h) rfl).trans ?_
      exact es_fin rfl rfl rfl
    · refine (es_st 2 (pc' := 27) (L' := [(0, .int x0_0)]) (S' := [.int (95 : Int32), .int x0_0]) (h' := h) rfl).trans ?_
      refine (is_ne (t := 34) rfl rfl rfl).trans (if_cg ?_ ?_)
      · refine (es_st 2 (pc' := 35) (L' := [(0, .int x0_0)]) (S' := [.int (1 : Int32)]) (h' := h) rfl).trans ?_
        exact es_fin rfl rfl rfl
      · refine (es_st 1 (pc' := 35) (L' := [(0, .int x0_0)]) (S' := [.int (0 : Int32)]) (h' := h) rfl).trans ?_
        exact es_fin rfl rfl rfl
theorem sX2_isWord_0 (B : Bool) (d : Nat) (hd : 1 ≤ d) (h : SG) (x0_0 : Int32) : mS B d 35 [.int x0_0] h = kI (mS B (d - 1) 34 [.int x0_0] h) (fun x2 h1 => if x2 = 0 then kI (mS B (d - 1) 36 [.int x0_0] h1) (fun x4 h3 => if x4 = 0 then if x0_0 = (36 : Int32) then some (.inl (some (.int (1 : Int32))), h3) else some (.inl (some (.int (0 : Int32))), h3) else some (.inl (some (.int (1 : Int32))), h3)) else some (.inl (some (.int (1 : Int32))), h1)) := by
  obtain ⟨d, rfl⟩ : ∃ e, d = e + 1 := ⟨d - 1, by omega⟩
  show evS B (d + 1) 35 0 [(0, .int x0_0)] [] h = _
  refine (es_st 1 (pc' := 1) (L' := [(0, .int x0_0)]) (S' := [.int x0_0]) (h' := h) rfl).trans ?_
  refine (es_cI (b := true) (k' := 34) (pc' := 4) (as := [.int x0_0]) (S' := []) (L' := [(0, .int x0_0)]) (h' := h) rfl rfl rfl rfl rfl).trans (kI_cg fun x2 h1 => ?_)
  refine (zs_ne (t := 20) rfl rfl rfl).trans (if_cg ?_ ?_)
  · refine (es_st 1 (pc' := 8) (L' := [(0, .int x0_0)]) (S' := [.int x0_0]) (h' := h1) rfl).trans ?_
    refine (es_cI (b := true) (k' := 36) (pc' := 11) (as := [.int x0_0]) (S' := []) (L' := [(0, .int x0_0)]) (h' := h1) rfl rfl rfl rfl rfl).trans (kI_cg fun x4 h3 => ?_)
    refine (zs_ne (t := 20) rfl rfl rfl).trans (if_cg ?_ ?_)
    · refine (es_st 2 (pc' := 17) (L' := [(0, .int x0_0)]) (S' := [.int (36 : Int32), .int x0_0]) (h' := h3) rfl).trans ?_
      refine (is_ne (t := 24) rfl rfl rfl).trans (if_cg ?_ ?_)
      · refine (es_st 2 (pc' := 25) (L' := [(0, .int x0_0)]) (S' := [.int (1 : Int32)]) (h' := h3) rfl).trans ?_
        exact es_fin rfl rfl rfl
      · refine (es_st 1 (pc' := 25) (L' := [(0, .int x0_0)]) (S' := [.int (0 : Int32)]) (h' := h3) rfl).trans ?_
        exact es_fin rfl rfl rfl
    · refine (es_st 2 (pc' := 25) (L' := [(0, .int x0_0)]) (S' := [.int (1 : Int32)]) (h' := h3) rfl).trans ?_
      exact es_fin rfl rfl rfl
  · refine (es_st 2 (pc' := 25) (L' := [(0, .int x0_0)]) (S' := [.int (1 : Int32)]) (h' := h1) rfl).trans ?_
    exact es_fin rfl rfl rfl
theorem sX2_isDigit_0 (B : Bool) (d : Nat) (h : SG) (x0_0 : Int32) : mS B d 36 [.int x0_0] h = if x0_0 < (48 : Int32) then some (.inl (some (.int (0 : Int32))), h) else if (57 : Int32) < x0_0 then some (.inl (some (.int (0 : Int32))), h) else some (.inl (some (.int (1 : Int32))), h) := by
  show evS B d 36 0 [(0, .int x0_0)] [] h = _
  refine (es_st 2 (pc' := 3) (L' := [(0, .int x0_0)]) (S' := [.int (48 : Int32), .int x0_0]) (h' := h) rfl).trans ?_
  refine (is_lt (t := 16) rfl rfl rfl).trans (if_cg ?_ ?_)
  · refine (es_st 1 (pc' := 17) (L' := [(0, .int x0_0)]) (S' := [.int (0 : Int32)]) (h' := h) rfl).trans ?_
    exact es_fin rfl rfl rfl
  · refine (es_st 2 (pc' := 9) (L' := [(0, .int x0_0)]) (S' := [.int (57 : Int32), .int x0_0]) (h' := h) rfl).trans ?_
    refine (is_gt (t := 16) rfl rfl rfl).trans (if_cg ?_ ?_)
    · refine (es_st 1 (pc' := 17) (L' := [(0, .int x0_0)]) (S' := [.int (0 : Int32)]) (h' := h) rfl).trans ?_
      exact es_fin rfl rfl rfl
    · refine (es_st 2 (pc' := 17) (L' := [(0, .int x0_0)]) (S' := [.int (1 : Int32)]) (h' := h) rfl).trans ?_
      exact es_fin rfl rfl rfl
theorem sX2_keyword_0 (B : Bool) (d : Nat) (hd : 6 ≤ d) (h : SG) : mS B d 37 [.ref 27] h = evS B d 37 2 [(0, .ref 27), (1, .int (0 : Int32))] [] h := by
  obtain ⟨d, rfl⟩ : ∃ e, d = e + 6 := ⟨d - 6, by omega⟩
  show evS B (d + 6) 37 0 [(0, .ref 27)] [] h = _
  refine (es_st 2 (pc' := 2) (L' := [(1, .int (0 : Int32)), (0, .ref 27)]) (S' := []) (h' := h) rfl).trans ?_
  exact es_cut rfl rfl rfl
theorem sX2_keyword_2 (B : Bool) (d : Nat) (hd : 6 ≤ d) (h : SG) (x0_1 : Int32) : evS B d 37 2 [(0, .ref 27), (1, .int x0_1)] [] h = if (18 : Int32) ≤ x0_1 then some (.inl (some (.int (257 : Int32))), h) else if ixN x0_1 18 = true then ob (stLS (7 + x0_1.toNatClampNeg)) (fun x1 => if x1 = ((sF h 27 8) - (sF h 27 7)) then evS B d 37 43 [(0, .ref 27), (1, .int x0_1), (2, .int (1 : Int32)), (3, .int (sF h 27 7))] [] h else evS B d 37 43 [(0, .ref 27), (1, .int x0_1), (2, .int (0 : Int32)), (3, .int (sF h 27 7))] [] h) else none := by
  obtain ⟨d, rfl⟩ : ∃ e, d = e + 6 := ⟨d - 6, by omega⟩
  refine (es_st 4 (pc' := 8) (L' := [(0, .ref 27), (1, .int x0_1)]) (S' := [.int (18 : Int32), .int x0_1]) (h' := h) rfl).trans ?_
  refine (is_ge (t := 107) rfl rfl rfl).trans (if_cg ?_ ?_)
  · refine (es_st 1 (pc' := 110) (L' := [(0, .ref 27), (1, .int x0_1)]) (S' := [.int (257 : Int32)]) (h' := h) rfl).trans ?_
    exact es_fin rfl rfl rfl
  · refine (es_st 3 (pc' := 16) (L' := [(0, .ref 27), (1, .int x0_1)]) (S' := [.int x0_1, .ref 28]) (h' := h) rfl).trans ?_
    refine (es_ix (c := ixN x0_1 18 = true) (x := (7 + x0_1.toNatClampNeg)) (pc' := 17) (L' := [(0, .ref 27), (1, .int x0_1)]) (S' := fun z => [.ref z]) (h' := fun z => h) rfl rfl rfl).trans (if_cgn ?_)
    refine (es_ob (o := stLS (7 + x0_1.toNatClampNeg)) (pc' := 20) (L' := [(0, .ref 27), (1, .int x0_1)]) (S' := fun z => [.int z]) (h' := fun z => h) rfl rfl rfl).trans (ob_cg fun x1 => ?_)
    refine (es_st 5 (pc' := 29) (L' := [(0, .ref 27), (1, .int x0_1)]) (S' := [.int ((sF h 27 8) - (sF h 27 7)), .int x1]) (h' := h) rfl).trans ?_
    refine (is_ne (t := 36) rfl rfl rfl).trans (if_cg ?_ ?_)
    · refine (es_st 6 (pc' := 43) (L' := [(3, .int (sF h 27 7)), (2, .int (1 : Int32)), (0, .ref 27), (1, .int x0_1)]) (S' := []) (h' := h) rfl).trans ?_
      exact es_cut rfl rfl rfl
    · refine (es_st 5 (pc' := 43) (L' := [(3, .int (sF h 27 7)), (2, .int (0 : Int32)), (0, .ref 27), (1, .int x0_1)]) (S' := []) (h' := h) rfl).trans ?_
      exact es_cut rfl rfl rfl
theorem sX2_keyword_43 (B : Bool) (d : Nat) (hd : 6 ≤ d) (h : SG) (x0_1 : Int32) (x0_2 : Int32) (x0_3 : Int32) : evS B d 37 43 [(0, .ref 27), (1, .int x0_1), (2, .int x0_2), (3, .int x0_3)] [] h = if (sF h 27 8) ≤ x0_3 then if x0_2 = 0 then evS B d 37 2 [(0, .ref 27), (1, .int (x0_1 + (1 : Int32)))] [] h else some (.inl (some (.int ((300 : Int32) + x0_1))), h) else if x0_2 = 0 then if x0_2 = 0 then evS B d 37 2 [(0, .ref 27), (1, .int (x0_1 + (1 : Int32)))] [] h else some (.inl (some (.int ((300 : Int32) + x0_1))), h) else if ixN x0_3 65536 = true then if ixN x0_1 18 = true then ob (stCS (7 + x0_1.toNatClampNeg) (x0_3 - (sF h 27 7))) (fun x1 => if (sF h 30 x0_3.toNatClampNeg) = x1 then evS B d 37 43 [(0, .ref 27), (1, .int x0_1), (2, .int (1 : Int32)), (3, .int (x0_3 + (1 : Int32)))] [] h else evS B d 37 43 [(0, .ref 27), (1, .int x0_1), (2, .int (0 : Int32)), (3, .int (x0_3 + (1 : Int32)))] [] h) else none else none := by
  obtain ⟨d, rfl⟩ : ∃ e, d = e + 6 := ⟨d - 6, by omega⟩
  refine (es_st 3 (pc' := 48) (L' := [(0, .ref 27), (1, .int x0_1), (2, .int x0_2), (3, .int x0_3)]) (S' := [.int (sF h 27 8), .int x0_3]) (h' := h) rfl).trans ?_
  refine (is_ge (t := 91) rfl rfl rfl).trans (if_cg ?_ ?_)
  · refine (es_st 1 (pc' := 92) (L' := [(0, .ref 27), (1, .int x0_1), (2, .int x0_2), (3, .int x0_3)]) (S' := [.int x0_2]) (h' := h) rfl).trans ?_
    refine (zs_eq (t := 101) rfl rfl rfl).trans (if_cg ?_ ?_)
    · refine (es_st 2 (pc' := 2) (L' := [(1, .int (x0_1 + (1 : Int32))), (0, .ref 27), (2, .int x0_2), (3, .int x0_3)]) (S' := []) (h' := h) rfl).trans ?_
      exact es_cut rfl rfl rfl
    · refine (es_st 3 (pc' := 100) (L' := [(0, .ref 27), (1, .int x0_1), (2, .int x0_2), (3, .int x0_3)]) (S' := [.int ((300 : Int32) + x0_1)]) (h' := h) rfl).trans ?_
      exact es_fin rfl rfl rfl
  · refine (es_st 1 (pc' := 52) (L' := [(0, .ref 27), (1, .int x0_1), (2, .int x0_2), (3, .int x0_3)]) (S' := [.int x0_2]) (h' := h) rfl).trans ?_
    refine (zs_eq (t := 91) rfl rfl rfl).trans (if_cg ?_ ?_)
    · refine (es_st 1 (pc' := 92) (L' := [(0, .ref 27), (1, .int x0_1), (2, .int x0_2), (3, .int x0_3)]) (S' := [.int x0_2]) (h' := h) rfl).trans ?_
      refine (zs_eq (t := 101) rfl rfl rfl).trans (if_cg ?_ ?_)
      · refine (es_st 2 (pc' := 2) (L' := [(1, .int (x0_1 + (1 : Int32))), (0, .ref 27), (2, .int x0_2), (3, .int x0_3)]) (S' := []) (h' := h) rfl).trans ?_
        exact es_cut rfl rfl rfl
      · refine (es_st 3 (pc' := 100) (L' := [(0, .ref 27), (1, .int x0_1), (2, .int x0_2), (3, .int x0_3)]) (S' := [.int ((300 : Int32) + x0_1)]) (h' := h) rfl).trans ?_
        exact es_fin rfl rfl rfl
    · refine (es_st 3 (pc' := 60) (L' := [(0, .ref 27), (1, .int x0_1), (2, .int x0_2), (3, .int x0_3)]) (S' := [.int x0_3, .ref 30]) (h' := h) rfl).trans ?_
      refine (es_ix (c := ixN x0_3 65536 = true) (x := (sF h 30 x0_3.toNatClampNeg)) (pc' := 61) (L' := [(0, .ref 27), (1, .int x0_1), (2, .int x0_2), (3, .int x0_3)]) (S' := fun z => [.int z]) (h' := fun z => h) rfl rfl rfl).trans (if_cgn ?_)
      refine (es_st 3 (pc' := 66) (L' := [(0, .ref 27), (1, .int x0_1), (2, .int x0_2), (3, .int x0_3)]) (S' := [.int x0_1, .ref 28, .int (sF h 30 x0_3.toNatClampNeg)]) (h' := h) rfl).trans ?_
      refine (es_ix (c := ixN x0_1 18 = true) (x := (7 + x0_1.toNatClampNeg)) (pc' := 67) (L' := [(0, .ref 27), (1, .int x0_1), (2, .int x0_2), (3, .int x0_3)]) (S' := fun z => [.ref z, .int (sF h 30 x0_3.toNatClampNeg)]) (h' := fun z => h) rfl rfl rfl).trans (if_cgn ?_)
      refine (es_st 4 (pc' := 73) (L' := [(0, .ref 27), (1, .int x0_1), (2, .int x0_2), (3, .int x0_3)]) (S' := [.int (x0_3 - (sF h 27 7)), .ref (7 + x0_1.toNatClampNeg), .int (sF h 30 x0_3.toNatClampNeg)]) (h' := h) rfl).trans ?_
      refine (es_ob (o := stCS (7 + x0_1.toNatClampNeg) (x0_3 - (sF h 27 7))) (pc' := 76) (L' := [(0, .ref 27), (1, .int x0_1), (2, .int x0_2), (3, .int x0_3)]) (S' := fun z => [.int z, .int (sF h 30 x0_3.toNatClampNeg)]) (h' := fun z => h) rfl rfl rfl).trans (ob_cg fun x1 => ?_)
      refine (is_ne (t := 83) rfl rfl rfl).trans (if_cg ?_ ?_)
      · refine (es_st 5 (pc' := 43) (L' := [(3, .int (x0_3 + (1 : Int32))), (2, .int (1 : Int32)), (0, .ref 27), (1, .int x0_1)]) (S' := []) (h' := h) rfl).trans ?_
        exact es_cut rfl rfl rfl
      · refine (es_st 4 (pc' := 43) (L' := [(3, .int (x0_3 + (1 : Int32))), (2, .int (0 : Int32)), (0, .ref 27), (1, .int x0_1)]) (S' := []) (h' := h) rfl).trans ?_
        exact es_cut rfl rfl rfl
theorem sX2_isSized_0 (B : Bool) (d : Nat) (h : SG) : mS B d 38 [.ref 27] h = evS B d 38 7 [(0, .ref 27), (1, .int (0 : Int32)), (2, .int (sF h 27 7))] [] h := by
  show evS B d 38 0 [(0, .ref 27)] [] h = _
  refine (es_st 5 (pc' := 7) (L' := [(2, .int (sF h 27 7)), (1, .int (0 : Int32)), (0, .ref 27)]) (S' := []) (h' := h) rfl).trans ?_
  exact es_cut rfl rfl rfl
theorem sX2_isSized_7 (B : Bool) (d : Nat) (h : SG) (x0_1 : Int32) (x0_2 : Int32) : evS B d 38 7 [(0, .ref 27), (1, .int x0_1), (2, .int x0_2)] [] h = if (sF h 27 8) ≤ x0_2 then if x0_1 = 0 ∨ x0_1 = 1 then some (.inl (some (.int x0_1)), h) else none else if x0_1 = 0 then if ixN x0_2 65536 = true then if (sF h 30 x0_2.toNatClampNeg) = (39 : Int32) then evS B d 38 7 [(0, .ref 27), (1, .int (1 : Int32)), (2, .int (x0_2 + (1 : Int32)))] [] h else evS B d 38 7 [(0, .ref 27), (1, .int (0 : Int32)), (2, .int (x0_2 + (1 : Int32)))] [] h else none else evS B d 38 7 [(0, .ref 27), (1, .int (1 : Int32)), (2, .int (x0_2 + (1 : Int32)))] [] h := by
  refine (es_st 3 (pc' := 12) (L' := [(0, .ref 27), (1, .int x0_1), (2, .int x0_2)]) (S' := [.int (sF h 27 8), .int x0_2]) (h' := h) rfl).trans ?_
  refine (is_ge (t := 42) rfl rfl rfl).trans (if_cg ?_ ?_)
  · refine (es_st 1 (pc' := 43) (L' := [(0, .ref 27), (1, .int x0_1), (2, .int x0_2)]) (S' := [.int x0_1]) (h' := h) rfl).trans ?_
    exact es_finZ rfl rfl rfl
  · refine (es_st 1 (pc' := 16) (L' := [(0, .ref 27), (1, .int x0_1), (2, .int x0_2)]) (S' := [.int x0_1]) (h' := h) rfl).trans ?_
    refine (zs_ne (t := 30) rfl rfl rfl).trans (if_cg ?_ ?_)
    · refine (es_st 3 (pc' := 24) (L' := [(0, .ref 27), (1, .int x0_1), (2, .int x0_2)]) (S' := [.int x0_2, .ref 30]) (h' := h) rfl).trans ?_
      refine (es_ix (c := ixN x0_2 65536 = true) (x := (sF h 30 x0_2.toNatClampNeg)) (pc' := 25) (L' := [(0, .ref 27), (1, .int x0_1), (2, .int x0_2)]) (S' := fun z => [.int z]) (h' := fun z => h) rfl rfl rfl).trans (if_cgn ?_)
      refine (es_st 1 (pc' := 27) (L' := [(0, .ref 27), (1, .int x0_1), (2, .int x0_2)]) (S' := [.int (39 : Int32), .int (sF h 30 x0_2.toNatClampNeg)]) (h' := h) rfl).trans ?_
      refine (is_ne (t := 34) rfl rfl rfl).trans (if_cg ?_ ?_)
      · refine (es_st 5 (pc' := 7) (L' := [(2, .int (x0_2 + (1 : Int32))), (1, .int (1 : Int32)), (0, .ref 27)]) (S' := []) (h' := h) rfl).trans ?_
        exact es_cut rfl rfl rfl
      · refine (es_st 4 (pc' := 7) (L' := [(2, .int (x0_2 + (1 : Int32))), (1, .int (0 : Int32)), (0, .ref 27)]) (S' := []) (h' := h) rfl).trans ?_
        exact es_cut rfl rfl rfl
    · refine (es_st 5 (pc' := 7) (L' := [(2, .int (x0_2 + (1 : Int32))), (1, .int (1 : Int32)), (0, .ref 27)]) (S' := []) (h' := h) rfl).trans ?_
      exact es_cut rfl rfl rfl
theorem sX2_number_0 (B : Bool) (d : Nat) (hd : 1 ≤ d) (h : SG) : mS B d 39 [.ref 27] h = evS B d 39 7 [(0, .ref 27), (1, .int (sF h 27 7)), (2, .int (0 : Int32))] [] h := by
  obtain ⟨d, rfl⟩ : ∃ e, d = e + 1 := ⟨d - 1, by omega⟩
  show evS B (d + 1) 39 0 [(0, .ref 27)] [] h = _
  refine (es_st 5 (pc' := 7) (L' := [(2, .int (0 : Int32)), (1, .int (sF h 27 7)), (0, .ref 27)]) (S' := []) (h' := h) rfl).trans ?_
  exact es_cut rfl rfl rfl
theorem sX2_number_7 (B : Bool) (d : Nat) (hd : 1 ≤ d) (h : SG) (x0_1 : Int32) (x0_2 : Int32) : evS B d 39 7 [(0, .ref 27), (1, .int x0_1), (2, .int x0_2)] [] h = if (sF h 27 8) ≤ x0_1 then evS B d 39 56 [(0, .ref 27), (1, .int x0_1), (2, .int x0_2)] [] h else kI (mS B (d - 1) 32 [.ref 27, .int x0_1] h) (fun x2 h1 => kI (mS B (d - 1) 36 [.int x2] h1) (fun x4 h3 => if x4 = 0 then evS B d 39 56 [(0, .ref 27), (1, .int x0_1), (2, .int x0_2)] [] h3 else if x0_2 ≤ (65535 : Int32) then kI (mS B (d - 1) 32 [.ref 27, .int x0_1] h3) (fun x6 h5 => evS B d 39 7 [(0, .ref 27), (1, .int (x0_1 + (1 : Int32))), (2, .int ((((10 : Int32) * x0_2) + x6) - (48 : Int32)))] [] h5) else evS B d 39 7 [(0, .ref 27), (1, .int (x0_1 + (1 : Int32))), (2, .int x0_2)] [] h3)) := by
  obtain ⟨d, rfl⟩ : ∃ e, d = e + 1 := ⟨d - 1, by omega⟩
  refine (es_st 3 (pc' := 12) (L' := [(0, .ref 27), (1, .int x0_1), (2, .int x0_2)]) (S' := [.int (sF h 27 8), .int x0_1]) (h' := h) rfl).trans ?_
  refine (is_ge (t := 56) rfl rfl rfl).trans (if_cg ?_ ?_)
  · exact es_cut rfl rfl rfl
  · refine (es_st 2 (pc' := 17) (L' := [(0, .ref 27), (1, .int x0_1), (2, .int x0_2)]) (S' := [.int x0_1, .ref 27]) (h' := h) rfl).trans ?_
    refine (es_cI (b := true) (k' := 32) (pc' := 20) (as := [.ref 27, .int x0_1]) (S' := []) (L' := [(0, .ref 27), (1, .int x0_1), (2, .int x0_2)]) (h' := h) rfl rfl rfl rfl rfl).trans (kI_cg fun x2 h1 => ?_)
    refine (es_cI (b := true) (k' := 36) (pc' := 23) (as := [.int x2]) (S' := []) (L' := [(0, .ref 27), (1, .int x0_1), (2, .int x0_2)]) (h' := h1) rfl rfl rfl rfl rfl).trans (kI_cg fun x4 h3 => ?_)
    refine (zs_eq (t := 56) rfl rfl rfl).trans (if_cg ?_ ?_)
    · exact es_cut rfl rfl rfl
    · refine (es_st 2 (pc' := 29) (L' := [(0, .ref 27), (1, .int x0_1), (2, .int x0_2)]) (S' := [.int (65535 : Int32), .int x0_2]) (h' := h3) rfl).trans ?_
      refine (is_le (t := 36) rfl rfl rfl).trans (if_cg ?_ ?_)
      · refine (es_st 5 (pc' := 42) (L' := [(0, .ref 27), (1, .int x0_1), (2, .int x0_2)]) (S' := [.int x0_1, .ref 27, .int ((10 : Int32) * x0_2)]) (h' := h3) rfl).trans ?_
        refine (es_cI (b := true) (k' := 32) (pc' := 45) (as := [.ref 27, .int x0_1]) (S' := [.int ((10 : Int32) * x0_2)]) (L' := [(0, .ref 27), (1, .int x0_1), (2, .int x0_2)]) (h' := h3) rfl rfl rfl rfl rfl).trans (kI_cg fun x6 h5 => ?_)
        refine (es_st 6 (pc' := 7) (L' := [(1, .int (x0_1 + (1 : Int32))), (2, .int ((((10 : Int32) * x0_2) + x6) - (48 : Int32))), (0, .ref 27)]) (S' := []) (h' := h5) rfl).trans ?_
        exact es_cut rfl rfl rfl
      · refine (es_st 5 (pc' := 7) (L' := [(1, .int (x0_1 + (1 : Int32))), (2, .int x0_2), (0, .ref 27)]) (S' := []) (h' := h3) rfl).trans ?_
        exact es_cut rfl rfl rfl
theorem sX2_number_56 (B : Bool) (d : Nat) (hd : 1 ≤ d) (h : SG) (x0_1 : Int32) (x0_2 : Int32) : evS B d 39 56 [(0, .ref 27), (1, .int x0_1), (2, .int x0_2)] [] h = if x0_1 = (sF h 27 8) then if x0_2 ≤ (65535 : Int32) then some (.inl none, (uJ (uF h 27 6 (258 : Int32)) 27 9 x0_2.toInt64)) else kR (mS B (d - 1) 33 [.ref 27, .int (1 : Int32), .int (sF h 27 7)] h) (fun a4 h3 => ckS (Nat.beq a4 29) (some (.inr 0, h3))) else kI (mS B (d - 1) 32 [.ref 27, .int (x0_1 + (1 : Int32))] h) (fun x2 h1 => if x2 = (98 : Int32) then evS B d 39 146 [(0, .ref 27), (1, .int x0_1), (2, .int x0_2)] [.int (2 : Int32)] h1 else if x2 = (111 : Int32) then evS B d 39 146 [(0, .ref 27), (1, .int x0_1), (2, .int x0_2)] [.int (8 : Int32)] h1 else if x2 = (100 : Int32) then evS B d 39 146 [(0, .ref 27), (1, .int x0_1), (2, .int x0_2)] [.int (10 : Int32)] h1 else if x2 = (104 : Int32) then evS B d 39 146 [(0, .ref 27), (1, .int x0_1), (2, .int x0_2)] [.int (16 : Int32)] h1 else evS B d 39 146 [(0, .ref 27), (1, .int x0_1), (2, .int x0_2)] [.int (0 : Int32)] h1) := by
  obtain ⟨d, rfl⟩ : ∃ e, d = e + 1 := ⟨d - 1, by omega⟩
  refine (es_st 3 (pc' := 61) (L' := [(0, .ref 27), (1, .int x0_1), (2, .int x0_2)]) (S' := [.int (sF h 27 8), .int x0_1]) (h' := h) rfl).trans ?_
  refine (is_ne (t := 94) rfl rfl rfl).trans (if_cg ?_ ?_)
  · refine (es_st 2 (pc' := 67) (L' := [(0, .ref 27), (1, .int x0_1), (2, .int x0_2)]) (S' := [.int (65535 : Int32), .int x0_2]) (h' := h) rfl).trans ?_
    refine (is_le (t := 80) rfl rfl rfl).trans (if_cg ?_ ?_)
    · refine (es_st 7 (pc' := 93) (L' := [(0, .ref 27), (1, .int x0_1), (2, .int x0_2)]) (S' := []) (h' := (uJ (uF h 27 6 (258 : Int32)) 27 9 x0_2.toInt64)) rfl).trans ?_
      exact es_fin rfl rfl rfl
    · refine (es_st 4 (pc' := 76) (L' := [(0, .ref 27), (1, .int x0_1), (2, .int x0_2)]) (S' := [.int (sF h 27 7), .int (1 : Int32), .ref 27]) (h' := h) rfl).trans ?_
      refine (es_cR (b := true) (k' := 33) (pc' := 79) (as := [.ref 27, .int (1 : Int32), .int (sF h 27 7)]) (S' := []) (L' := [(0, .ref 27), (1, .int x0_1), (2, .int x0_2)]) (h' := h) rfl rfl rfl rfl rfl).trans (kR_cg fun a4 h3 => ?_)
      exact es_thr rfl rfl rfl
  · refine (es_st 4 (pc' := 98) (L' := [(0, .ref 27), (1, .int x0_1), (2, .int x0_2)]) (S' := [.int (x0_1 + (1 : Int32)), .ref 27]) (h' := h) rfl).trans ?_
    refine (es_cI (b := true) (k' := 32) (pc' := 101) (as := [.ref 27, .int (x0_1 + (1 : Int32))]) (S' := []) (L' := [(0, .ref 27), (1, .int x0_1), (2, .int x0_2)]) (h' := h) rfl rfl rfl rfl rfl).trans (kI_cg fun x2 h1 => ?_)
    refine (es_st 3 (pc' := 105) (L' := [(3, .int x2), (0, .ref 27), (1, .int x0_1), (2, .int x0_2)]) (S' := [.int (98 : Int32), .int x2]) (h' := h1) rfl).trans ?_
    refine (is_ne (t := 112) rfl rfl rfl).trans (if_cg ?_ ?_)
    · refine (es_st 2 (pc' := 146) (L' := [(3, .int x2), (0, .ref 27), (1, .int x0_1), (2, .int x0_2)]) (S' := [.int (2 : Int32)]) (h' := h1) rfl).trans ?_
      exact es_cut rfl rfl rfl
    · refine (es_st 2 (pc' := 115) (L' := [(3, .int x2), (0, .ref 27), (1, .int x0_1), (2, .int x0_2)]) (S' := [.int (111 : Int32), .int x2]) (h' := h1) rfl).trans ?_
      refine (is_ne (t := 123) rfl rfl rfl).trans (if_cg ?_ ?_)
      · refine (es_st 2 (pc' := 146) (L' := [(3, .int x2), (0, .ref 27), (1, .int x0_1), (2, .int x0_2)]) (S' := [.int (8 : Int32)]) (h' := h1) rfl).trans ?_
        exact es_cut rfl rfl rfl
      · refine (es_st 2 (pc' := 126) (L' := [(3, .int x2), (0, .ref 27), (1, .int x0_1), (2, .int x0_2)]) (S' := [.int (100 : Int32), .int x2]) (h' := h1) rfl).trans ?_
        refine (is_ne (t := 134) rfl rfl rfl).trans (if_cg ?_ ?_)
        · refine (es_st 2 (pc' := 146) (L' := [(3, .int x2), (0, .ref 27), (1, .int x0_1), (2, .int x0_2)]) (S' := [.int (10 : Int32)]) (h' := h1) rfl).trans ?_
          exact es_cut rfl rfl rfl
        · refine (es_st 2 (pc' := 137) (L' := [(3, .int x2), (0, .ref 27), (1, .int x0_1), (2, .int x0_2)]) (S' := [.int (104 : Int32), .int x2]) (h' := h1) rfl).trans ?_
          refine (is_ne (t := 145) rfl rfl rfl).trans (if_cg ?_ ?_)
          · refine (es_st 2 (pc' := 146) (L' := [(3, .int x2), (0, .ref 27), (1, .int x0_1), (2, .int x0_2)]) (S' := [.int (16 : Int32)]) (h' := h1) rfl).trans ?_
            exact es_cut rfl rfl rfl
          · refine (es_st 1 (pc' := 146) (L' := [(3, .int x2), (0, .ref 27), (1, .int x0_1), (2, .int x0_2)]) (S' := [.int (0 : Int32)]) (h' := h1) rfl).trans ?_
            exact es_cut rfl rfl rfl
theorem sX2_number_146 (B : Bool) (d : Nat) (hd : 1 ≤ d) (h : SG) (x0_1 : Int32) (x0_2 : Int32) (s0 : Int32) : evS B d 39 146 [(0, .ref 27), (1, .int x0_1), (2, .int x0_2)] [.int s0] h = kI (mS B (d - 1) 32 [.ref 27, .int x0_1] h) (fun x2 h1 => if x2 = (39 : Int32) then if x0_2 < (1 : Int32) then kR (mS B (d - 1) 33 [.ref 27, .int (1 : Int32), .int (sF h1 27 7)] h1) (fun a6 h5 => ckS (Nat.beq a6 29) (some (.inr 0, h5))) else if (64 : Int32) < x0_2 then kR (mS B (d - 1) 33 [.ref 27, .int (1 : Int32), .int (sF h1 27 7)] h1) (fun a8 h7 => ckS (Nat.beq a8 29) (some (.inr 0, h7))) else if s0 = 0 then kR (mS B (d - 1) 33 [.ref 27, .int (1 : Int32), .int (sF h1 27 7)] h1) (fun a10 h9 => ckS (Nat.beq a10 29) (some (.inr 0, h9))) else if (x0_1 + (2 : Int32)) < (sF h1 27 8) then evS B d 39 214 [(0, .ref 27), (1, .int (x0_1 + (2 : Int32))), (2, .int x0_2), (4, .int s0)] [] (uJ (uF (uF h1 27 6 (259 : Int32)) 27 10 x0_2) 27 9 (0 : Int64)) else kR (mS B (d - 1) 33 [.ref 27, .int (1 : Int32), .int (sF h1 27 7)] h1) (fun a12 h11 => ckS (Nat.beq a12 29) (some (.inr 0, h11))) else kR (mS B (d - 1) 33 [.ref 27, .int (1 : Int32), .int (sF h1 27 7)] h1) (fun a4 h3 => ckS (Nat.beq a4 29) (some (.inr 0, h3)))) := by
  obtain ⟨d, rfl⟩ : ∃ e, d = e + 1 := ⟨d - 1, by omega⟩
  refine (es_st 3 (pc' := 150) (L' := [(4, .int s0), (0, .ref 27), (1, .int x0_1), (2, .int x0_2)]) (S' := [.int x0_1, .ref 27]) (h' := h) rfl).trans ?_
  refine (es_cI (b := true) (k' := 32) (pc' := 153) (as := [.ref 27, .int x0_1]) (S' := []) (L' := [(4, .int s0), (0, .ref 27), (1, .int x0_1), (2, .int x0_2)]) (h' := h) rfl rfl rfl rfl rfl).trans (kI_cg fun x2 h1 => ?_)
  refine (es_st 1 (pc' := 155) (L' := [(4, .int s0), (0, .ref 27), (1, .int x0_1), (2, .int x0_2)]) (S' := [.int (39 : Int32), .int x2]) (h' := h1) rfl).trans ?_
  refine (is_ne (t := 184) rfl rfl rfl).trans (if_cg ?_ ?_)
  · refine (es_st 2 (pc' := 160) (L' := [(4, .int s0), (0, .ref 27), (1, .int x0_1), (2, .int x0_2)]) (S' := [.int (1 : Int32), .int x0_2]) (h' := h1) rfl).trans ?_
    refine (is_lt (t := 184) rfl rfl rfl).trans (if_cg ?_ ?_)
    · refine (es_st 4 (pc' := 190) (L' := [(4, .int s0), (0, .ref 27), (1, .int x0_1), (2, .int x0_2)]) (S' := [.int (sF h1 27 7), .int (1 : Int32), .ref 27]) (h' := h1) rfl).trans ?_
      refine (es_cR (b := true) (k' := 33) (pc' := 193) (as := [.ref 27, .int (1 : Int32), .int (sF h1 27 7)]) (S' := []) (L' := [(4, .int s0), (0, .ref 27), (1, .int x0_1), (2, .int x0_2)]) (h' := h1) rfl rfl rfl rfl rfl).trans (kR_cg fun a6 h5 => ?_)
      exact es_thr rfl rfl rfl
    · refine (es_st 2 (pc' := 166) (L' := [(4, .int s0), (0, .ref 27), (1, .int x0_1), (2, .int x0_2)]) (S' := [.int (64 : Int32), .int x0_2]) (h' := h1) rfl).trans ?_
      refine (is_gt (t := 184) rfl rfl rfl).trans (if_cg ?_ ?_)
      · refine (es_st 4 (pc' := 190) (L' := [(4, .int s0), (0, .ref 27), (1, .int x0_1), (2, .int x0_2)]) (S' := [.int (sF h1 27 7), .int (1 : Int32), .ref 27]) (h' := h1) rfl).trans ?_
        refine (es_cR (b := true) (k' := 33) (pc' := 193) (as := [.ref 27, .int (1 : Int32), .int (sF h1 27 7)]) (S' := []) (L' := [(4, .int s0), (0, .ref 27), (1, .int x0_1), (2, .int x0_2)]) (h' := h1) rfl rfl rfl rfl rfl).trans (kR_cg fun a8 h7 => ?_)
        exact es_thr rfl rfl rfl
      · refine (es_st 1 (pc' := 171) (L' := [(4, .int s0), (0, .ref 27), (1, .int x0_1), (2, .int x0_2)]) (S' := [.int s0]) (h' := h1) rfl).trans ?_
        refine (zs_eq (t := 184) rfl rfl rfl).trans (if_cg ?_ ?_)
        · refine (es_st 4 (pc' := 190) (L' := [(4, .int s0), (0, .ref 27), (1, .int x0_1), (2, .int x0_2)]) (S' := [.int (sF h1 27 7), .int (1 : Int32), .ref 27]) (h' := h1) rfl).trans ?_
          refine (es_cR (b := true) (k' := 33) (pc' := 193) (as := [.ref 27, .int (1 : Int32), .int (sF h1 27 7)]) (S' := []) (L' := [(4, .int s0), (0, .ref 27), (1, .int x0_1), (2, .int x0_2)]) (h' := h1) rfl rfl rfl rfl rfl).trans (kR_cg fun a10 h9 => ?_)
          exact es_thr rfl rfl rfl
        · refine (es_st 5 (pc' := 181) (L' := [(4, .int s0), (0, .ref 27), (1, .int x0_1), (2, .int x0_2)]) (S' := [.int (sF h1 27 8), .int (x0_1 + (2 : Int32))]) (h' := h1) rfl).trans ?_
          refine (is_lt (t := 194) rfl rfl rfl).trans (if_cg ?_ ?_)
          · refine (es_st 10 (pc' := 214) (L' := [(1, .int (x0_1 + (2 : Int32))), (4, .int s0), (0, .ref 27), (2, .int x0_2)]) (S' := []) (h' := (uJ (uF (uF h1 27 6 (259 : Int32)) 27 10 x0_2) 27 9 (0 : Int64))) rfl).trans ?_
            exact es_cut rfl rfl rfl
          · refine (es_st 4 (pc' := 190) (L' := [(4, .int s0), (0, .ref 27), (1, .int x0_1), (2, .int x0_2)]) (S' := [.int (sF h1 27 7), .int (1 : Int32), .ref 27]) (h' := h1) rfl).trans ?_
            refine (es_cR (b := true) (k' := 33) (pc' := 193) (as := [.ref 27, .int (1 : Int32), .int (sF h1 27 7)]) (S' := []) (L' := [(4, .int s0), (0, .ref 27), (1, .int x0_1), (2, .int x0_2)]) (h' := h1) rfl rfl rfl rfl rfl).trans (kR_cg fun a12 h11 => ?_)
            exact es_thr rfl rfl rfl
  · refine (es_st 4 (pc' := 190) (L' := [(4, .int s0), (0, .ref 27), (1, .int x0_1), (2, .int x0_2)]) (S' := [.int (sF h1 27 7), .int (1 : Int32), .ref 27]) (h' := h1) rfl).trans ?_
    refine (es_cR (b := true) (k' := 33) (pc' := 193) (as := [.ref 27, .int (1 : Int32), .int (sF h1 27 7)]) (S' := []) (L' := [(4, .int s0), (0, .ref 27), (1, .int x0_1), (2, .int x0_2)]) (h' := h1) rfl rfl rfl rfl rfl).trans (kR_cg fun a4 h3 => ?_)
    exact es_thr rfl rfl rfl
theorem sX2_number_214 (B : Bool) (d : Nat) (hd : 1 ≤ d) (h : SG) (x0_1 : Int32) (x0_2 : Int32) (x0_4 : Int32) : evS B d 39 214 [(0, .ref 27), (1, .int x0_1), (2, .int x0_2), (4, .int x0_4)] [] h = if (sF h 27 8) ≤ x0_1 then some (.inl none, h) else kI (mS B (d - 1) 32 [.ref 27, .int x0_1] h) (fun x2 h1 => kI (mS B (d - 1) 40 [.int x2] h1) (fun x4 h3 => if x0_4 ≤ x4 then kR (mS B (d - 1) 33 [.ref 27, .int (1 : Int32), .int (sF h3 27 7)] h3) (fun a6 h5 => ckS (Nat.beq a6 29) (some (.inr 0, h5))) else kI (mS B (d - 1) 41 [.ref 27, .int x0_4, .int x4] h3) (fun x8 h7 => if x8 = 0 then if (64 : Int32) ≤ x0_2 then evS B d 39 214 [(0, .ref 27), (1, .int (x0_1 + (1 : Int32))), (2, .int x0_2), (4, .int x0_4)] [] (uJ h7 27 9 (((sJ h7 27 9) * x0_4.toInt64) + x4.toInt64)) else if (lg_cmp (lus (sJ (uJ h7 27 9 (((sJ h7 27 9) * x0_4.toInt64) + x4.toInt64)) 27 9) x0_2) (0 : Int64)) = 0 then evS B d 39 214 [(0, .ref 27), (1, .int (x0_1 + (1 : Int32))), (2, .int x0_2), (4, .int x0_4)] [] (uJ h7 27 9 (((sJ h7 27 9) * x0_4.toInt64) + x4.toInt64)) else kR (mS B (d - 1) 33 [.ref 27, .int (1 : Int32), .int (sF (uJ h7 27 9 (((sJ h7 27 9) * x0_4.toInt64) + x4.toInt64)) 27 7)] (uJ h7 27 9 (((sJ h7 27 9) * x0_4.toInt64) + x4.toInt64))) (fun a10 h9 => ckS (Nat.beq a10 29) (some (.inr 0, h9))) else kR (mS B (d - 1) 33 [.ref 27, .int (1 : Int32), .int (sF h7 27 7)] h7) (fun a12 h11 => ckS (Nat.beq a12 29) (some (.inr 0, h11)))))) := by
  obtain ⟨d, rfl⟩ : ∃ e, d = e + 1 := ⟨d - 1, by omega⟩
  refine (es_st 3 (pc' := 219) (L' := [(0, .ref 27), (1, .int x0_1), (2, .int x0_2), (4, .int x0_4)]) (S' := [.int (sF h 27 8), .int x0_1]) (h' := h) rfl).trans ?_
  refine (is_ge (t := 309) rfl rfl rfl).trans (if_cg ?_ ?_)
  · exact es_fin rfl rfl rfl
  · refine (es_st 2 (pc' := 224) (L' := [(0, .ref 27), (1, .int x0_1), (2, .int x0_2), (4, .int x0_4)]) (S' := [.int x0_1, .ref 27]) (h' := h) rfl).trans ?_
    refine (es_cI (b := true) (k' := 32) (pc' := 227) (as := [.ref 27, .int x0_1]) (S' := []) (L' := [(0, .ref 27), (1, .int x0_1), (2, .int x0_2), (4, .int x0_4)]) (h' := h) rfl rfl rfl rfl rfl).trans (kI_cg fun x2 h1 => ?_)
    refine (es_cI (b := true) (k' := 40) (pc' := 230) (as := [.int x2]) (S' := []) (L' := [(0, .ref 27), (1, .int x0_1), (2, .int x0_2), (4, .int x0_4)]) (h' := h1) rfl rfl rfl rfl rfl).trans (kI_cg fun x4 h3 => ?_)
    refine (es_st 3 (pc' := 236) (L' := [(5, .int x4), (0, .ref 27), (1, .int x0_1), (2, .int x0_2), (4, .int x0_4)]) (S' := [.int x0_4, .int x4]) (h' := h3) rfl).trans ?_
    refine (is_ge (t := 250) rfl rfl rfl).trans (if_cg ?_ ?_)
    · refine (es_st 4 (pc' := 256) (L' := [(5, .int x4), (0, .ref 27), (1, .int x0_1), (2, .int x0_2), (4, .int x0_4)]) (S' := [.int (sF h3 27 7), .int (1 : Int32), .ref 27]) (h' := h3) rfl).trans ?_
      refine (es_cR (b := true) (k' := 33) (pc' := 259) (as := [.ref 27, .int (1 : Int32), .int (sF h3 27 7)]) (S' := []) (L' := [(5, .int x4), (0, .ref 27), (1, .int x0_1), (2, .int x0_2), (4, .int x0_4)]) (h' := h3) rfl rfl rfl rfl rfl).trans (kR_cg fun a6 h5 => ?_)
      exact es_thr rfl rfl rfl
    · refine (es_st 3 (pc' := 244) (L' := [(5, .int x4), (0, .ref 27), (1, .int x0_1), (2, .int x0_2), (4, .int x0_4)]) (S' := [.int x4, .int x0_4, .ref 27]) (h' := h3) rfl).trans ?_
      refine (es_cI (b := true) (k' := 41) (pc' := 247) (as := [.ref 27, .int x0_4, .int x4]) (S' := []) (L' := [(5, .int x4), (0, .ref 27), (1, .int x0_1), (2, .int x0_2), (4, .int x0_4)]) (h' := h3) rfl rfl rfl rfl rfl).trans (kI_cg fun x8 h7 => ?_)
      refine (zs_eq (t := 260) rfl rfl rfl).trans (if_cg ?_ ?_)
      · refine (es_st 12 (pc' := 279) (L' := [(5, .int x4), (0, .ref 27), (1, .int x0_1), (2, .int x0_2), (4, .int x0_4)]) (S' := [.int (64 : Int32), .int x0_2]) (h' := (uJ h7 27 9 (((sJ h7 27 9) * x0_4.toInt64) + x4.toInt64))) rfl).trans ?_
        refine (is_ge (t := 303) rfl rfl rfl).trans (if_cg ?_ ?_)
        · refine (es_st 2 (pc' := 214) (L' := [(1, .int (x0_1 + (1 : Int32))), (5, .int x4), (0, .ref 27), (2, .int x0_2), (4, .int x0_4)]) (S' := []) (h' := (uJ h7 27 9 (((sJ h7 27 9) * x0_4.toInt64) + x4.toInt64))) rfl).trans ?_
          exact es_cut rfl rfl rfl
        · refine (es_st 6 (pc' := 290) (L' := [(5, .int x4), (0, .ref 27), (1, .int x0_1), (2, .int x0_2), (4, .int x0_4)]) (S' := [.int (lg_cmp (lus (sJ (uJ h7 27 9 (((sJ h7 27 9) * x0_4.toInt64) + x4.toInt64)) 27 9) x0_2) (0 : Int64))]) (h' := (uJ h7 27 9 (((sJ h7 27 9) * x0_4.toInt64) + x4.toInt64))) rfl).trans ?_
          refine (zs_eq (t := 303) rfl rfl rfl).trans (if_cg ?_ ?_)
          · refine (es_st 2 (pc' := 214) (L' := [(1, .int (x0_1 + (1 : Int32))), (5, .int x4), (0, .ref 27), (2, .int x0_2), (4, .int x0_4)]) (S' := []) (h' := (uJ h7 27 9 (((sJ h7 27 9) * x0_4.toInt64) + x4.toInt64))) rfl).trans ?_
            exact es_cut rfl rfl rfl
          · refine (es_st 4 (pc' := 299) (L' := [(5, .int x4), (0, .ref 27), (1, .int x0_1), (2, .int x0_2), (4, .int x0_4)]) (S' := [.int (sF (uJ h7 27 9 (((sJ h7 27 9) * x0_4.toInt64) + x4.toInt64)) 27 7), .int (1 : Int32), .ref 27]) (h' := (uJ h7 27 9 (((sJ h7 27 9) * x0_4.toInt64) + x4.toInt64))) rfl).trans ?_
            refine (es_cR (b := true) (k' := 33) (pc' := 302) (as := [.ref 27, .int (1 : Int32), .int (sF (uJ h7 27 9 (((sJ h7 27 9) * x0_4.toInt64) + x4.toInt64)) 27 7)]) (S' := []) (L' := [(5, .int x4), (0, .ref 27), (1, .int x0_1), (2, .int x0_2), (4, .int x0_4)]) (h' := (uJ h7 27 9 (((sJ h7 27 9) * x0_4.toInt64) + x4.toInt64))) rfl rfl rfl rfl rfl).trans (kR_cg fun a10 h9 => ?_)
            exact es_thr rfl rfl rfl
      · refine (es_st 4 (pc' := 256) (L' := [(5, .int x4), (0, .ref 27), (1, .int x0_1), (2, .int x0_2), (4, .int x0_4)]) (S' := [.int (sF h7 27 7), .int (1 : Int32), .ref 27]) (h' := h7) rfl).trans ?_
        refine (es_cR (b := true) (k' := 33) (pc' := 259) (as := [.ref 27, .int (1 : Int32), .int (sF h7 27 7)]) (S' := []) (L' := [(5, .int x4), (0, .ref 27), (1, .int x0_1), (2, .int x0_2), (4, .int x0_4)]) (h' := h7) rfl rfl rfl rfl rfl).trans (kR_cg fun a12 h11 => ?_)
        exact es_thr rfl rfl rfl
theorem sX2_digit_0 (B : Bool) (d : Nat) (hd : 1 ≤ d) (h : SG) (x0_0 : Int32) : mS B d 40 [.int x0_0] h = kI (mS B (d - 1) 36 [.int x0_0] h) (fun x2 h1 => if x2 = 0 then if x0_0 < (97 : Int32) then evS B d 40 36 [(0, .int x0_0)] [] h1 else if (102 : Int32) < x0_0 then evS B d 40 36 [(0, .int x0_0)] [] h1 else some (.inl (some (.int ((x0_0 - (97 : Int32)) + (10 : Int32)))), h1) else some (.inl (some (.int (x0_0 - (48 : Int32)))), h1)) := by
  obtain ⟨d, rfl⟩ : ∃ e, d = e + 1 := ⟨d - 1, by omega⟩
  show evS B (d + 1) 40 0 [(0, .int x0_0)] [] h = _
  refine (es_st 1 (pc' := 1) (L' := [(0, .int x0_0)]) (S' := [.int x0_0]) (h' := h) rfl).trans ?_
  refine (es_cI (b := true) (k' := 36) (pc' := 4) (as := [.int x0_0]) (S' := []) (L' := [(0, .int x0_0)]) (h' := h) rfl rfl rfl rfl rfl).trans (kI_cg fun x2 h1 => ?_)
  refine (zs_eq (t := 14) rfl rfl rfl).trans (if_cg ?_ ?_)
  · refine (es_st 2 (pc' := 17) (L' := [(0, .int x0_0)]) (S' := [.int (97 : Int32), .int x0_0]) (h' := h1) rfl).trans ?_
    refine (is_lt (t := 36) rfl rfl rfl).trans (if_cg ?_ ?_)
    · exact es_cut rfl rfl rfl
    · refine (es_st 2 (pc' := 23) (L' := [(0, .int x0_0)]) (S' := [.int (102 : Int32), .int x0_0]) (h' := h1) rfl).trans ?_
      refine (is_gt (t := 36) rfl rfl rfl).trans (if_cg ?_ ?_)
      · exact es_cut rfl rfl rfl
      · refine (es_st 6 (pc' := 60) (L' := [(0, .int x0_0)]) (S' := [.int ((x0_0 - (97 : Int32)) + (10 : Int32))]) (h' := h1) rfl).trans ?_
        exact es_fin rfl rfl rfl
  · refine (es_st 4 (pc' := 60) (L' := [(0, .int x0_0)]) (S' := [.int (x0_0 - (48 : Int32))]) (h' := h1) rfl).trans ?_
    exact es_fin rfl rfl rfl
theorem sX2_digit_36 (B : Bool) (d : Nat) (hd : 1 ≤ d) (h : SG) (x0_0 : Int32) : evS B d 40 36 [(0, .int x0_0)] [] h = if x0_0 < (65 : Int32) then some (.inl (some (.int (99 : Int32))), h) else if (70 : Int32) < x0_0 then some (.inl (some (.int (99 : Int32))), h) else some (.inl (some (.int ((x0_0 - (65 : Int32)) + (10 : Int32)))), h) := by
  obtain ⟨d, rfl⟩ : ∃ e, d = e + 1 := ⟨d - 1, by omega⟩
  refine (es_st 2 (pc' := 39) (L' := [(0, .int x0_0)]) (S' := [.int (65 : Int32), .int x0_0]) (h' := h) rfl).trans ?_
  refine (is_lt (t := 58) rfl rfl rfl).trans (if_cg ?_ ?_)
  · refine (es_st 1 (pc' := 60) (L' := [(0, .int x0_0)]) (S' := [.int (99 : Int32)]) (h' := h) rfl).trans ?_
    exact es_fin rfl rfl rfl
  · refine (es_st 2 (pc' := 45) (L' := [(0, .int x0_0)]) (S' := [.int (70 : Int32), .int x0_0]) (h' := h) rfl).trans ?_
    refine (is_gt (t := 58) rfl rfl rfl).trans (if_cg ?_ ?_)
    · refine (es_st 1 (pc' := 60) (L' := [(0, .int x0_0)]) (S' := [.int (99 : Int32)]) (h' := h) rfl).trans ?_
      exact es_fin rfl rfl rfl
    · refine (es_st 6 (pc' := 60) (L' := [(0, .int x0_0)]) (S' := [.int ((x0_0 - (65 : Int32)) + (10 : Int32))]) (h' := h) rfl).trans ?_
      exact es_fin rfl rfl rfl
theorem sX2_isFar_0 (B : Bool) (d : Nat) (h : SG) (x0_1 : Int32) (x0_2 : Int32) : mS B d 41 [.ref 27, .int x0_1, .int x0_2] h = if x0_1 = (2 : Int32) then if 0 ≤ (lg_cmp (sJ h 27 9) (0 : Int64)) then some (.inl (some (.int (0 : Int32))), h) else some (.inl (some (.int (1 : Int32))), h) else if x0_1 = (8 : Int32) then if (lg_cmp (lus (sJ h 27 9) (61 : Int32)) (0 : Int64)) = 0 then some (.inl (some (.int (0 : Int32))), h) else some (.inl (some (.int (1 : Int32))), h) else if x0_1 = (16 : Int32) then if (lg_cmp (lus (sJ h 27 9) (60 : Int32)) (0 : Int64)) = 0 then some (.inl (some (.int (0 : Int32))), h) else some (.inl (some (.int (1 : Int32))), h) else if (lg_cmp (sJ h 27 9) (0 : Int64)) < 0 then some (.inl (some (.int (1 : Int32))), h) else if 0 < (lg_cmp (sJ h 27 9) (1844674407370955161 : Int64)) then some (.inl (some (.int (1 : Int32))), h) else if (lg_cmp (sJ h 27 9) (1844674407370955161 : Int64)) = 0 then if x0_2 ≤ (5 : Int32) then some (.inl (some (.int (0 : Int32))), h) else some (.inl (some (.int (1 : Int32))), h) else some (.inl (some (.int (0 : Int32))), h) := by
  show evS B d 41 0 [(0, .ref 27), (1, .int x0_1), (2, .int x0_2)] [] h = _
  refine (es_st 4 (pc' := 6) (L' := [(3, .long (1844674407370955161 : Int64)), (0, .ref 27), (1, .int x0_1), (2, .int x0_2)]) (S' := [.int (2 : Int32), .int x0_1]) (h' := h) rfl).trans ?_
  refine (is_ne (t := 26) rfl rfl rfl).trans (if_cg ?_ ?_)
  · refine (es_st 4 (pc' := 15) (L' := [(3, .long (1844674407370955161 : Int64)), (0, .ref 27), (1, .int x0_1), (2, .int x0_2)]) (S' := [.int (lg_cmp (sJ h 27 9) (0 : Int64))]) (h' := h) rfl).trans ?_
    refine (zs_ge (t := 22) rfl rfl rfl).trans (if_cg ?_ ?_)
    · refine (es_st 2 (pc' := 115) (L' := [(3, .long (1844674407370955161 : Int64)), (0, .ref 27), (1, .int x0_1), (2, .int x0_2)]) (S' := [.int (0 : Int32)]) (h' := h) rfl).trans ?_
      exact es_fin rfl rfl rfl
    · refine (es_st 2 (pc' := 115) (L' := [(3, .long (1844674407370955161 : Int64)), (0, .ref 27), (1, .int x0_1), (2, .int x0_2)]) (S' := [.int (1 : Int32)]) (h' := h) rfl).trans ?_
      exact es_fin rfl rfl rfl
  · refine (es_st 2 (pc' := 29) (L' := [(3, .long (1844674407370955161 : Int64)), (0, .ref 27), (1, .int x0_1), (2, .int x0_2)]) (S' := [.int (8 : Int32), .int x0_1]) (h' := h) rfl).trans ?_
    refine (is_ne (t := 52) rfl rfl rfl).trans (if_cg ?_ ?_)
    · refine (es_st 6 (pc' := 41) (L' := [(3, .long (1844674407370955161 : Int64)), (0, .ref 27), (1, .int x0_1), (2, .int x0_2)]) (S' := [.int (lg_cmp (lus (sJ h 27 9) (61 : Int32)) (0 : Int64))]) (h' := h) rfl).trans ?_
      refine (zs_eq (t := 48) rfl rfl rfl).trans (if_cg ?_ ?_)
      · refine (es_st 2 (pc' := 115) (L' := [(3, .long (1844674407370955161 : Int64)), (0, .ref 27), (1, .int x0_1), (2, .int x0_2)]) (S' := [.int (0 : Int32)]) (h' := h) rfl).trans ?_
        exact es_fin rfl rfl rfl
      · refine (es_st 2 (pc' := 115) (L' := [(3, .long (1844674407370955161 : Int64)), (0, .ref 27), (1, .int x0_1), (2, .int x0_2)]) (S' := [.int (1 : Int32)]) (h' := h) rfl).trans ?_
        exact es_fin rfl rfl rfl
    · refine (es_st 2 (pc' := 55) (L' := [(3, .long (1844674407370955161 : Int64)), (0, .ref 27), (1, .int x0_1), (2, .int x0_2)]) (S' := [.int (16 : Int32), .int x0_1]) (h' := h) rfl).trans ?_
      refine (is_ne (t := 78) rfl rfl rfl).trans (if_cg ?_ ?_)
      · refine (es_st 6 (pc' := 67) (L' := [(3, .long (1844674407370955161 : Int64)), (0, .ref 27), (1, .int x0_1), (2, .int x0_2)]) (S' := [.int (lg_cmp (lus (sJ h 27 9) (60 : Int32)) (0 : Int64))]) (h' := h) rfl).trans ?_
        refine (zs_eq (t := 74) rfl rfl rfl).trans (if_cg ?_ ?_)
        · refine (es_st 2 (pc' := 115) (L' := [(3, .long (1844674407370955161 : Int64)), (0, .ref 27), (1, .int x0_1), (2, .int x0_2)]) (S' := [.int (0 : Int32)]) (h' := h) rfl).trans ?_
          exact es_fin rfl rfl rfl
        · refine (es_st 2 (pc' := 115) (L' := [(3, .long (1844674407370955161 : Int64)), (0, .ref 27), (1, .int x0_1), (2, .int x0_2)]) (S' := [.int (1 : Int32)]) (h' := h) rfl).trans ?_
          exact es_fin rfl rfl rfl
      · refine (es_st 4 (pc' := 84) (L' := [(3, .long (1844674407370955161 : Int64)), (0, .ref 27), (1, .int x0_1), (2, .int x0_2)]) (S' := [.int (lg_cmp (sJ h 27 9) (0 : Int64))]) (h' := h) rfl).trans ?_
        refine (zs_lt (t := 110) rfl rfl rfl).trans (if_cg ?_ ?_)
        · refine (es_st 2 (pc' := 115) (L' := [(3, .long (1844674407370955161 : Int64)), (0, .ref 27), (1, .int x0_1), (2, .int x0_2)]) (S' := [.int (1 : Int32)]) (h' := h) rfl).trans ?_
          exact es_fin rfl rfl rfl
        · refine (es_st 4 (pc' := 93) (L' := [(3, .long (1844674407370955161 : Int64)), (0, .ref 27), (1, .int x0_1), (2, .int x0_2)]) (S' := [.int (lg_cmp (sJ h 27 9) (1844674407370955161 : Int64))]) (h' := h) rfl).trans ?_
          refine (zs_gt (t := 110) rfl rfl rfl).trans (if_cg ?_ ?_)
          · refine (es_st 2 (pc' := 115) (L' := [(3, .long (1844674407370955161 : Int64)), (0, .ref 27), (1, .int x0_1), (2, .int x0_2)]) (S' := [.int (1 : Int32)]) (h' := h) rfl).trans ?_
            exact es_fin rfl rfl rfl
          · refine (es_st 4 (pc' := 102) (L' := [(3, .long (1844674407370955161 : Int64)), (0, .ref 27), (1, .int x0_1), (2, .int x0_2)]) (S' := [.int (lg_cmp (sJ h 27 9) (1844674407370955161 : Int64))]) (h' := h) rfl).trans ?_
            refine (zs_ne (t := 114) rfl rfl rfl).trans (if_cg ?_ ?_)
            · refine (es_st 2 (pc' := 107) (L' := [(3, .long (1844674407370955161 : Int64)), (0, .ref 27), (1, .int x0_1), (2, .int x0_2)]) (S' := [.int (5 : Int32), .int x0_2]) (h' := h) rfl).trans ?_
              refine (is_le (t := 114) rfl rfl rfl).trans (if_cg ?_ ?_)
              · refine (es_st 1 (pc' := 115) (L' := [(3, .long (1844674407370955161 : Int64)), (0, .ref 27), (1, .int x0_1), (2, .int x0_2)]) (S' := [.int (0 : Int32)]) (h' := h) rfl).trans ?_
                exact es_fin rfl rfl rfl
              · refine (es_st 2 (pc' := 115) (L' := [(3, .long (1844674407370955161 : Int64)), (0, .ref 27), (1, .int x0_1), (2, .int x0_2)]) (S' := [.int (1 : Int32)]) (h' := h) rfl).trans ?_
                exact es_fin rfl rfl rfl
            · refine (es_st 1 (pc' := 115) (L' := [(3, .long (1844674407370955161 : Int64)), (0, .ref 27), (1, .int x0_1), (2, .int x0_2)]) (S' := [.int (0 : Int32)]) (h' := h) rfl).trans ?_
              exact es_fin rfl rfl rfl
theorem sX2_sign_0 (B : Bool) (d : Nat) (hd : 1 ≤ d) (h : SG) (x0_1 : Int32) : mS B d 42 [.ref 27, .int x0_1] h = kI (mS B (d - 1) 32 [.ref 27, .int ((sF h 27 7) + (1 : Int32))] h) (fun x2 h1 => if x0_1 = (38 : Int32) then if x2 = (38 : Int32) then evS B d 42 156 [(0, .ref 27), (1, .int x0_1)] [.int (260 : Int32)] h1 else if x0_1 = (124 : Int32) then if x2 = (124 : Int32) then evS B d 42 156 [(0, .ref 27), (1, .int x0_1)] [.int (261 : Int32)] h1 else evS B d 42 47 [(0, .ref 27), (1, .int x0_1), (2, .int x2)] [] h1 else evS B d 42 47 [(0, .ref 27), (1, .int x0_1), (2, .int x2)] [] h1 else if x0_1 = (124 : Int32) then if x2 = (124 : Int32) then evS B d 42 156 [(0, .ref 27), (1, .int x0_1)] [.int (261 : Int32)] h1 else evS B d 42 47 [(0, .ref 27), (1, .int x0_1), (2, .int x2)] [] h1 else evS B d 42 47 [(0, .ref 27), (1, .int x0_1), (2, .int x2)] [] h1) := by
  obtain ⟨d, rfl⟩ : ∃ e, d = e + 1 := ⟨d - 1, by omega⟩
  show evS B (d + 1) 42 0 [(0, .ref 27), (1, .int x0_1)] [] h = _
  refine (es_st 5 (pc' := 7) (L' := [(0, .ref 27), (1, .int x0_1)]) (S' := [.int ((sF h 27 7) + (1 : Int32)), .ref 27]) (h' := h) rfl).trans ?_
  refine (es_cI (b := true) (k' := 32) (pc' := 10) (as := [.ref 27, .int ((sF h 27 7) + (1 : Int32))]) (S' := []) (L' := [(0, .ref 27), (1, .int x0_1)]) (h' := h) rfl rfl rfl rfl rfl).trans (kI_cg fun x2 h1 => ?_)
  refine (es_st 3 (pc' := 14) (L' := [(2, .int x2), (0, .ref 27), (1, .int x0_1)]) (S' := [.int (38 : Int32), .int x0_1]) (h' := h1) rfl).trans ?_
  refine (is_ne (t := 29) rfl rfl rfl).trans (if_cg ?_ ?_)
  · refine (es_st 2 (pc' := 20) (L' := [(2, .int x2), (0, .ref 27), (1, .int x0_1)]) (S' := [.int (38 : Int32), .int x2]) (h' := h1) rfl).trans ?_
    refine (is_ne (t := 29) rfl rfl rfl).trans (if_cg ?_ ?_)
    · refine (es_st 2 (pc' := 156) (L' := [(2, .int x2), (0, .ref 27), (1, .int x0_1)]) (S' := [.int (260 : Int32)]) (h' := h1) rfl).trans ?_
      exact es_cut rfl rfl rfl
    · refine (es_st 2 (pc' := 32) (L' := [(2, .int x2), (0, .ref 27), (1, .int x0_1)]) (S' := [.int (124 : Int32), .int x0_1]) (h' := h1) rfl).trans ?_
      refine (is_ne (t := 47) rfl rfl rfl).trans (if_cg ?_ ?_)
      · refine (es_st 2 (pc' := 38) (L' := [(2, .int x2), (0, .ref 27), (1, .int x0_1)]) (S' := [.int (124 : Int32), .int x2]) (h' := h1) rfl).trans ?_
        refine (is_ne (t := 47) rfl rfl rfl).trans (if_cg ?_ ?_)
        · refine (es_st 2 (pc' := 156) (L' := [(2, .int x2), (0, .ref 27), (1, .int x0_1)]) (S' := [.int (261 : Int32)]) (h' := h1) rfl).trans ?_
          exact es_cut rfl rfl rfl
        · exact es_cut rfl rfl rfl
      · exact es_cut rfl rfl rfl
  · refine (es_st 2 (pc' := 32) (L' := [(2, .int x2), (0, .ref 27), (1, .int x0_1)]) (S' := [.int (124 : Int32), .int x0_1]) (h' := h1) rfl).trans ?_
    refine (is_ne (t := 47) rfl rfl rfl).trans (if_cg ?_ ?_)
    · refine (es_st 2 (pc' := 38) (L' := [(2, .int x2), (0, .ref 27), (1, .int x0_1)]) (S' := [.int (124 : Int32), .int x2]) (h' := h1) rfl).trans ?_
      refine (is_ne (t := 47) rfl rfl rfl).trans (if_cg ?_ ?_)
      · refine (es_st 2 (pc' := 156) (L' := [(2, .int x2), (0, .ref 27), (1, .int x0_1)]) (S' := [.int (261 : Int32)]) (h' := h1) rfl).trans ?_
        exact es_cut rfl rfl rfl
      · exact es_cut rfl rfl rfl
    · exact es_cut rfl rfl rfl
theorem sX2_sign_47 (B : Bool) (d : Nat) (hd : 1 ≤ d) (h : SG) (x0_1 : Int32) (x0_2 : Int32) : evS B d 42 47 [(0, .ref 27), (1, .int x0_1), (2, .int x0_2)] [] h = if x0_1 = (61 : Int32) then if x0_2 = (61 : Int32) then evS B d 42 156 [(0, .ref 27), (1, .int x0_1)] [.int (262 : Int32)] h else if x0_1 = (33 : Int32) then if x0_2 = (61 : Int32) then evS B d 42 156 [(0, .ref 27), (1, .int x0_1)] [.int (263 : Int32)] h else evS B d 42 83 [(0, .ref 27), (1, .int x0_1), (2, .int x0_2)] [] h else evS B d 42 83 [(0, .ref 27), (1, .int x0_1), (2, .int x0_2)] [] h else if x0_1 = (33 : Int32) then if x0_2 = (61 : Int32) then evS B d 42 156 [(0, .ref 27), (1, .int x0_1)] [.int (263 : Int32)] h else evS B d 42 83 [(0, .ref 27), (1, .int x0_1), (2, .int x0_2)] [] h else evS B d 42 83 [(0, .ref 27), (1, .int x0_1), (2, .int x0_2)] [] h := by
  obtain ⟨d, rfl⟩ : ∃ e, d = e + 1 := ⟨d - 1, by omega⟩
  refine (es_st 2 (pc' := 50) (L' := [(0, .ref 27), (1, .int x0_1), (2, .int x0_2)]) (S' := [.int (61 : Int32), .int x0_1]) (h' := h) rfl).trans ?_
  refine (is_ne (t := 65) rfl rfl rfl).trans (if_cg ?_ ?_)
  · refine (es_st 2 (pc' := 56) (L' := [(0, .ref 27), (1, .int x0_1), (2, .int x0_2)]) (S' := [.int (61 : Int32), .int x0_2]) (h' := h) rfl).trans ?_
    refine (is_ne (t := 65) rfl rfl rfl).trans (if_cg ?_ ?_)
    · refine (es_st 2 (pc' := 156) (L' := [(0, .ref 27), (1, .int x0_1), (2, .int x0_2)]) (S' := [.int (262 : Int32)]) (h' := h) rfl).trans ?_
      exact es_cut rfl rfl rfl
    · refine (es_st 2 (pc' := 68) (L' := [(0, .ref 27), (1, .int x0_1), (2, .int x0_2)]) (S' := [.int (33 : Int32), .int x0_1]) (h' := h) rfl).trans ?_
      refine (is_ne (t := 83) rfl rfl rfl).trans (if_cg ?_ ?_)
      · refine (es_st 2 (pc' := 74) (L' := [(0, .ref 27), (1, .int x0_1), (2, .int x0_2)]) (S' := [.int (61 : Int32), .int x0_2]) (h' := h) rfl).trans ?_
        refine (is_ne (t := 83) rfl rfl rfl).trans (if_cg ?_ ?_)
        · refine (es_st 2 (pc' := 156) (L' := [(0, .ref 27), (1, .int x0_1), (2, .int x0_2)]) (S' := [.int (263 : Int32)]) (h' := h) rfl).trans ?_
          exact es_cut rfl rfl rfl
        · exact es_cut rfl rfl rfl
      · exact es_cut rfl rfl rfl
  · refine (es_st 2 (pc' := 68) (L' := [(0, .ref 27), (1, .int x0_1), (2, .int x0_2)]) (S' := [.int (33 : Int32), .int x0_1]) (h' := h) rfl).trans ?_
    refine (is_ne (t := 83) rfl rfl rfl).trans (if_cg ?_ ?_)
    · refine (es_st 2 (pc' := 74) (L' := [(0, .ref 27), (1, .int x0_1), (2, .int x0_2)]) (S' := [.int (61 : Int32), .int x0_2]) (h' := h) rfl).trans ?_
      refine (is_ne (t := 83) rfl rfl rfl).trans (if_cg ?_ ?_)
      · refine (es_st 2 (pc' := 156) (L' := [(0, .ref 27), (1, .int x0_1), (2, .int x0_2)]) (S' := [.int (263 : Int32)]) (h' := h) rfl).trans ?_
        exact es_cut rfl rfl rfl
      · exact es_cut rfl rfl rfl
    · exact es_cut rfl rfl rfl
theorem sX2_sign_83 (B : Bool) (d : Nat) (hd : 1 ≤ d) (h : SG) (x0_1 : Int32) (x0_2 : Int32) : evS B d 42 83 [(0, .ref 27), (1, .int x0_1), (2, .int x0_2)] [] h = if x0_1 = (60 : Int32) then if x0_2 = (61 : Int32) then evS B d 42 156 [(0, .ref 27), (1, .int x0_1)] [.int (264 : Int32)] h else if x0_1 = (62 : Int32) then if x0_2 = (61 : Int32) then evS B d 42 156 [(0, .ref 27), (1, .int x0_1)] [.int (265 : Int32)] h else evS B d 42 119 [(0, .ref 27), (1, .int x0_1), (2, .int x0_2)] [] h else evS B d 42 119 [(0, .ref 27), (1, .int x0_1), (2, .int x0_2)] [] h else if x0_1 = (62 : Int32) then if x0_2 = (61 : Int32) then evS B d 42 156 [(0, .ref 27), (1, .int x0_1)] [.int (265 : Int32)] h else evS B d 42 119 [(0, .ref 27), (1, .int x0_1), (2, .int x0_2)] [] h else evS B d 42 119 [(0, .ref 27), (1, .int x0_1), (2, .int x0_2)] [] h := by
  obtain ⟨d, rfl⟩ : ∃ e, d = e + 1 := ⟨d - 1, by omega⟩
  refine (es_st 2 (pc' := 86) (L' := [(0, .ref 27), (1, .int x0_1), (2, .int x0_2)]) (S' := [.int (60 : Int32), .int x0_1]) (h' := h) rfl).trans ?_
  refine (is_ne (t := 101) rfl rfl rfl).trans (if_cg ?_ ?_)
  · refine (es_st 2 (pc' := 92) (L' := [(0, .ref 27), (1, .int x0_1), (2, .int x0_2)]) (S' := [.int (61 : Int32), .int x0_2]) (h' := h) rfl).trans ?_
    refine (is_ne (t := 101) rfl rfl rfl).trans (if_cg ?_ ?_)
    · refine (es_st 2 (pc' := 156) (L' := [(0, .ref 27), (1, .int x0_1), (2, .int x0_2)]) (S' := [.int (264 : Int32)]) (h' := h) rfl).trans ?_
      exact es_cut rfl rfl rfl
    · refine (es_st 2 (pc' := 104) (L' := [(0, .ref 27), (1, .int x0_1), (2, .int x0_2)]) (S' := [.int (62 : Int32), .int x0_1]) (h' := h) rfl).trans ?_
      refine (is_ne (t := 119) rfl rfl rfl).trans (if_cg ?_ ?_)
      · refine (es_st 2 (pc' := 110) (L' := [(0, .ref 27), (1, .int x0_1), (2, .int x0_2)]) (S' := [.int (61 : Int32), .int x0_2]) (h' := h) rfl).trans ?_
        refine (is_ne (t := 119) rfl rfl rfl).trans (if_cg ?_ ?_)
        · refine (es_st 2 (pc' := 156) (L' := [(0, .ref 27), (1, .int x0_1), (2, .int x0_2)]) (S' := [.int (265 : Int32)]) (h' := h) rfl).trans ?_
          exact es_cut rfl rfl rfl
        · exact es_cut rfl rfl rfl
      · exact es_cut rfl rfl rfl
  · refine (es_st 2 (pc' := 104) (L' := [(0, .ref 27), (1, .int x0_1), (2, .int x0_2)]) (S' := [.int (62 : Int32), .int x0_1]) (h' := h) rfl).trans ?_
    refine (is_ne (t := 119) rfl rfl rfl).trans (if_cg ?_ ?_)
    · refine (es_st 2 (pc' := 110) (L' := [(0, .ref 27), (1, .int x0_1), (2, .int x0_2)]) (S' := [.int (61 : Int32), .int x0_2]) (h' := h) rfl).trans ?_
      refine (is_ne (t := 119) rfl rfl rfl).trans (if_cg ?_ ?_)
      · refine (es_st 2 (pc' := 156) (L' := [(0, .ref 27), (1, .int x0_1), (2, .int x0_2)]) (S' := [.int (265 : Int32)]) (h' := h) rfl).trans ?_
        exact es_cut rfl rfl rfl
      · exact es_cut rfl rfl rfl
    · exact es_cut rfl rfl rfl
theorem sX2_sign_119 (B : Bool) (d : Nat) (hd : 1 ≤ d) (h : SG) (x0_1 : Int32) (x0_2 : Int32) : evS B d 42 119 [(0, .ref 27), (1, .int x0_1), (2, .int x0_2)] [] h = if x0_1 = (60 : Int32) then if x0_2 = (60 : Int32) then evS B d 42 156 [(0, .ref 27), (1, .int x0_1)] [.int (266 : Int32)] h else if x0_1 = (62 : Int32) then if x0_2 = (62 : Int32) then evS B d 42 156 [(0, .ref 27), (1, .int x0_1)] [.int (267 : Int32)] h else evS B d 42 156 [(0, .ref 27), (1, .int x0_1)] [.int (0 : Int32)] h else evS B d 42 156 [(0, .ref 27), (1, .int x0_1)] [.int (0 : Int32)] h else if x0_1 = (62 : Int32) then if x0_2 = (62 : Int32) then evS B d 42 156 [(0, .ref 27), (1, .int x0_1)] [.int (267 : Int32)] h else evS B d 42 156 [(0, .ref 27), (1, .int x0_1)] [.int (0 : Int32)] h else evS B d 42 156 [(0, .ref 27), (1, .int x0_1)] [.int (0 : Int32)] h := by
  obtain ⟨d, rfl⟩ : ∃ e, d = e + 1 := ⟨d - 1, by omega⟩
  refine (es_st 2 (pc' := 122) (L' := [(0, .ref 27), (1, .int x0_1), (2, .int x0_2)]) (S' := [.int (60 : Int32), .int x0_1]) (h' := h) rfl).trans ?_
  refine (is_ne (t := 137) rfl rfl rfl).trans (if_cg ?_ ?_)
  · refine (es_st 2 (pc' := 128) (L' := [(0, .ref 27), (1, .int x0_1), (2, .int x0_2)]) (S' := [.int (60 : Int32), .int x0_2]) (h' := h) rfl).trans ?_
    refine (is_ne (t := 137) rfl rfl rfl).trans (if_cg ?_ ?_)
    · refine (es_st 2 (pc' := 156) (L' := [(0, .ref 27), (1, .int x0_1), (2, .int x0_2)]) (S' := [.int (266 : Int32)]) (h' := h) rfl).trans ?_
      exact es_cut rfl rfl rfl
    · refine (es_st 2 (pc' := 140) (L' := [(0, .ref 27), (1, .int x0_1), (2, .int x0_2)]) (S' := [.int (62 : Int32), .int x0_1]) (h' := h) rfl).trans ?_
      refine (is_ne (t := 155) rfl rfl rfl).trans (if_cg ?_ ?_)
      · refine (es_st 2 (pc' := 146) (L' := [(0, .ref 27), (1, .int x0_1), (2, .int x0_2)]) (S' := [.int (62 : Int32), .int x0_2]) (h' := h) rfl).trans ?_
        refine (is_ne (t := 155) rfl rfl rfl).trans (if_cg ?_ ?_)
        · refine (es_st 2 (pc' := 156) (L' := [(0, .ref 27), (1, .int x0_1), (2, .int x0_2)]) (S' := [.int (267 : Int32)]) (h' := h) rfl).trans ?_
          exact es_cut rfl rfl rfl
        · refine (es_st 1 (pc' := 156) (L' := [(0, .ref 27), (1, .int x0_1), (2, .int x0_2)]) (S' := [.int (0 : Int32)]) (h' := h) rfl).trans ?_
          exact es_cut rfl rfl rfl
      · refine (es_st 1 (pc' := 156) (L' := [(0, .ref 27), (1, .int x0_1), (2, .int x0_2)]) (S' := [.int (0 : Int32)]) (h' := h) rfl).trans ?_
        exact es_cut rfl rfl rfl
  · refine (es_st 2 (pc' := 140) (L' := [(0, .ref 27), (1, .int x0_1), (2, .int x0_2)]) (S' := [.int (62 : Int32), .int x0_1]) (h' := h) rfl).trans ?_
    refine (is_ne (t := 155) rfl rfl rfl).trans (if_cg ?_ ?_)
    · refine (es_st 2 (pc' := 146) (L' := [(0, .ref 27), (1, .int x0_1), (2, .int x0_2)]) (S' := [.int (62 : Int32), .int x0_2]) (h' := h) rfl).trans ?_
      refine (is_ne (t := 155) rfl rfl rfl).trans (if_cg ?_ ?_)
      · refine (es_st 2 (pc' := 156) (L' := [(0, .ref 27), (1, .int x0_1), (2, .int x0_2)]) (S' := [.int (267 : Int32)]) (h' := h) rfl).trans ?_
        exact es_cut rfl rfl rfl
      · refine (es_st 1 (pc' := 156) (L' := [(0, .ref 27), (1, .int x0_1), (2, .int x0_2)]) (S' := [.int (0 : Int32)]) (h' := h) rfl).trans ?_
        exact es_cut rfl rfl rfl
    · refine (es_st 1 (pc' := 156) (L' := [(0, .ref 27), (1, .int x0_1), (2, .int x0_2)]) (S' := [.int (0 : Int32)]) (h' := h) rfl).trans ?_
      exact es_cut rfl rfl rfl
theorem sX2_sign_156 (B : Bool) (d : Nat) (hd : 1 ≤ d) (h : SG) (x0_1 : Int32) (s0 : Int32) : evS B d 42 156 [(0, .ref 27), (1, .int x0_1)] [.int s0] h = if s0 = 0 then kI (mS B (d - 1) 43 [.int x0_1] h) (fun x2 h1 => if x2 = 0 then kR (mS B (d - 1) 33 [.ref 27, .int (1 : Int32), .int (sF h1 27 7)] h1) (fun a4 h3 => ckS (Nat.beq a4 29) (some (.inr 0, h3))) else if s0 = 0 then evS B d 42 188 [(0, .ref 27), (3, .int s0)] [.int x0_1, .ref 27] h1 else evS B d 42 188 [(0, .ref 27), (3, .int s0)] [.int s0, .ref 27] h1) else if s0 = 0 then evS B d 42 188 [(0, .ref 27), (3, .int s0)] [.int x0_1, .ref 27] h else evS B d 42 188 [(0, .ref 27), (3, .int s0)] [.int s0, .ref 27] h := by
  obtain ⟨d, rfl⟩ : ∃ e, d = e + 1 := ⟨d - 1, by omega⟩
  refine (es_st 2 (pc' := 158) (L' := [(3, .int s0), (0, .ref 27), (1, .int x0_1)]) (S' := [.int s0]) (h' := h) rfl).trans ?_
  refine (zs_ne (t := 178) rfl rfl rfl).trans (if_cg ?_ ?_)
  · refine (es_st 1 (pc' := 162) (L' := [(3, .int s0), (0, .ref 27), (1, .int x0_1)]) (S' := [.int x0_1]) (h' := h) rfl).trans ?_
    refine (es_cI (b := true) (k' := 43) (pc' := 165) (as := [.int x0_1]) (S' := []) (L' := [(3, .int s0), (0, .ref 27), (1, .int x0_1)]) (h' := h) rfl rfl rfl rfl rfl).trans (kI_cg fun x2 h1 => ?_)
    refine (zs_ne (t := 178) rfl rfl rfl).trans (if_cg ?_ ?_)
    · refine (es_st 4 (pc' := 174) (L' := [(3, .int s0), (0, .ref 27), (1, .int x0_1)]) (S' := [.int (sF h1 27 7), .int (1 : Int32), .ref 27]) (h' := h1) rfl).trans ?_
      refine (es_cR (b := true) (k' := 33) (pc' := 177) (as := [.ref 27, .int (1 : Int32), .int (sF h1 27 7)]) (S' := []) (L' := [(3, .int s0), (0, .ref 27), (1, .int x0_1)]) (h' := h1) rfl rfl rfl rfl rfl).trans (kR_cg fun a4 h3 => ?_)
      exact es_thr rfl rfl rfl
    · refine (es_st 2 (pc' := 180) (L' := [(3, .int s0), (0, .ref 27), (1, .int x0_1)]) (S' := [.int s0, .ref 27]) (h' := h1) rfl).trans ?_
      refine (zs_ne (t := 187) rfl rfl rfl).trans (if_cg ?_ ?_)
      · refine (es_st 2 (pc' := 188) (L' := [(3, .int s0), (0, .ref 27), (1, .int x0_1)]) (S' := [.int x0_1, .ref 27]) (h' := h1) rfl).trans ?_
        exact es_cut rfl rfl rfl
      · refine (es_st 1 (pc' := 188) (L' := [(3, .int s0), (0, .ref 27), (1, .int x0_1)]) (S' := [.int s0, .ref 27]) (h' := h1) rfl).trans ?_
        exact es_cut rfl rfl rfl
  · refine (es_st 2 (pc' := 180) (L' := [(3, .int s0), (0, .ref 27), (1, .int x0_1)]) (S' := [.int s0, .ref 27]) (h' := h) rfl).trans ?_
    refine (zs_ne (t := 187) rfl rfl rfl).trans (if_cg ?_ ?_)
    · refine (es_st 2 (pc' := 188) (L' := [(3, .int s0), (0, .ref 27), (1, .int x0_1)]) (S' := [.int x0_1, .ref 27]) (h' := h) rfl).trans ?_
      exact es_cut rfl rfl rfl
    · refine (es_st 1 (pc' := 188) (L' := [(3, .int s0), (0, .ref 27), (1, .int x0_1)]) (S' := [.int s0, .ref 27]) (h' := h) rfl).trans ?_
      exact es_cut rfl rfl rfl
theorem sX2_sign_188 (B : Bool) (d : Nat) (hd : 1 ≤ d) (h : SG) (x0_3 : Int32) (s0 : Int32) : evS B d 42 188 [(0, .ref 27), (3, .int x0_3)] [.int s0, .ref 27] h = if x0_3 = 0 then some (.inl none, (uF (uF h 27 6 s0) 27 8 ((sF (uF h 27 6 s0) 27 7) + (1 : Int32)))) else some (.inl none, (uF (uF h 27 6 s0) 27 8 ((sF (uF h 27 6 s0) 27 7) + (2 : Int32)))) := by
  obtain ⟨d, rfl⟩ : ∃ e, d = e + 1 := ⟨d - 1, by omega⟩
  refine (es_st 5 (pc' := 197) (L' := [(0, .ref 27), (3, .int x0_3)]) (S' := [.int x0_3, .int (sF (uF h 27 6 s0) 27 7), .ref 27]) (h' := (uF h 27 6 s0)) rfl).trans ?_
  refine (zs_ne (t := 204) rfl rfl rfl).trans (if_cg ?_ ?_)
  · refine (es_st 4 (pc' := 209) (L' := [(0, .ref 27), (3, .int x0_3)]) (S' := []) (h' := (uF (uF h 27 6 s0) 27 8 ((sF (uF h 27 6 s0) 27 7) + (1 : Int32)))) rfl).trans ?_
    exact es_fin rfl rfl rfl
  · refine (es_st 3 (pc' := 209) (L' := [(0, .ref 27), (3, .int x0_3)]) (S' := []) (h' := (uF (uF h 27 6 s0) 27 8 ((sF (uF h 27 6 s0) 27 7) + (2 : Int32)))) rfl).trans ?_
    exact es_fin rfl rfl rfl
theorem sX2_isSign_0 (B : Bool) (d : Nat) (h : SG) (x0_0 : Int32) : mS B d 43 [.int x0_0] h = evS B d 43 (selT x0_0 [((33 : Int32), 392), ((34 : Int32), 394), ((35 : Int32), 394), ((36 : Int32), 394), ((37 : Int32), 394), ((38 : Int32), 392), ((39 : Int32), 394), ((40 : Int32), 392), ((41 : Int32), 392), ((42 : Int32), 392), ((43 : Int32), 392), ((44 : Int32), 392), ((45 : Int32), 392), ((46 : Int32), 392), ((47 : Int32), 394), ((48 : Int32), 394), ((49 : Int32), 394), ((50 : Int32), 394), ((51 : Int32), 394), ((52 : Int32), 394), ((53 : Int32), 394), ((54 : Int32), 394), ((55 : Int32), 394), ((56 : Int32), 394), ((57 : Int32), 394), ((58 : Int32), 392), ((59 : Int32), 392), ((60 : Int32), 392), ((61 : Int32), 392), ((62 : Int32), 392), ((63 : Int32), 392), ((64 : Int32), 392), ((65 : Int32), 394), ((66 : Int32), 394), ((67 : Int32), 394), ((68 : Int32), 394), ((69 : Int32), 394), ((70 : Int32), 394), ((71 : Int32), 394), ((72 : Int32), 394), ((73 : Int32), 394), ((74 : Int32), 394), ((75 : Int32), 394), ((76 : Int32), 394), ((77 : Int32), 394), ((78 : Int32), 394), ((79 : Int32), 394), ((80 : Int32), 394), ((81 : Int32), 394), ((82 : Int32), 394), ((83 : Int32), 394), ((84 : Int32), 394), ((85 : Int32), 394), ((86 : Int32), 394), ((87 : Int32), 394), ((88 : Int32), 394), ((89 : Int32), 394), ((90 : Int32), 394), ((91 : Int32), 392), ((92 : Int32), 394), ((93 : Int32), 392), ((94 : Int32), 392), ((95 : Int32), 394), ((96 : Int32), 394), ((97 : Int32), 394), ((98 : Int32), 394), ((99 : Int32), 394), ((100 : Int32), 394), ((101 : Int32), 394), ((102 : Int32), 394), ((103 : Int32), 394), ((104 : Int32), 394), ((105 : Int32), 394), ((106 : Int32), 394), ((107 : Int32), 394), ((108 : Int32), 394), ((109 : Int32), 394), ((110 : Int32), 394), ((111 : Int32), 394), ((112 : Int32), 394), ((113 : Int32), 394), ((114 : Int32), 394), ((115 : Int32), 394), ((116 : Int32), 394), ((117 : Int32), 394), ((118 : Int32), 394), ((119 : Int32), 394), ((120 : Int32), 394), ((121 : Int32), 394), ((122 : Int32), 394), ((123 : Int32), 392), ((124 : Int32), 392), ((125 : Int32), 392), ((126 : Int32), 392)] 394) [(0, .int x0_0)] [] h := by
  show evS B d 43 0 [(0, .int x0_0)] [] h = _
  refine (es_st 1 (pc' := 1) (L' := [(0, .int x0_0)]) (S' := [.int x0_0]) (h' := h) rfl).trans ?_
  exact es_sw (a := x0_0) (cs := [((33 : Int32), 392), ((34 : Int32), 394), ((35 : Int32), 394), ((36 : Int32), 394), ((37 : Int32), 394), ((38 : Int32), 392), ((39 : Int32), 394), ((40 : Int32), 392), ((41 : Int32), 392), ((42 : Int32), 392), ((43 : Int32), 392), ((44 : Int32), 392), ((45 : Int32), 392), ((46 : Int32), 392), ((47 : Int32), 394), ((48 : Int32), 394), ((49 : Int32), 394), ((50 : Int32), 394), ((51 : Int32), 394), ((52 : Int32), 394), ((53 : Int32), 394), ((54 : Int32), 394), ((55 : Int32), 394), ((56 : Int32), 394), ((57 : Int32), 394), ((58 : Int32), 392), ((59 : Int32), 392), ((60 : Int32), 392), ((61 : Int32), 392), ((62 : Int32), 392), ((63 : Int32), 392), ((64 : Int32), 392), ((65 : Int32), 394), ((66 : Int32), 394), ((67 : Int32), 394), ((68 : Int32), 394), ((69 : Int32), 394), ((70 : Int32), 394), ((71 : Int32), 394), ((72 : Int32), 394), ((73 : Int32), 394), ((74 : Int32), 394), ((75 : Int32), 394), ((76 : Int32), 394), ((77 : Int32), 394), ((78 : Int32), 394), ((79 : Int32), 394), ((80 : Int32), 394), ((81 : Int32), 394), ((82 : Int32), 394), ((83 : Int32), 394), ((84 : Int32), 394), ((85 : Int32), 394), ((86 : Int32), 394), ((87 : Int32), 394), ((88 : Int32), 394), ((89 : Int32), 394), ((90 : Int32), 394), ((91 : Int32), 392), ((92 : Int32), 394), ((93 : Int32), 392), ((94 : Int32), 392), ((95 : Int32), 394), ((96 : Int32), 394), ((97 : Int32), 394), ((98 : Int32), 394), ((99 : Int32), 394), ((100 : Int32), 394), ((101 : Int32), 394), ((102 : Int32), 394), ((103 : Int32), 394), ((104 : Int32), 394), ((105 : Int32), 394), ((106 : Int32), 394), ((107 : Int32), 394), ((108 : Int32), 394), ((109 : Int32), 394), ((110 : Int32), 394), ((111 : Int32), 394), ((112 : Int32), 394), ((113 : Int32), 394), ((114 : Int32), 394), ((115 : Int32), 394), ((116 : Int32), 394), ((117 : Int32), 394), ((118 : Int32), 394), ((119 : Int32), 394), ((120 : Int32), 394), ((121 : Int32), 394), ((122 : Int32), 394), ((123 : Int32), 392), ((124 : Int32), 392), ((125 : Int32), 392), ((126 : Int32), 392)]) (df := 394) (L' := [(0, .int x0_0)]) (S' := []) rfl rfl rfl
theorem sX2_need_0 (B : Bool) (d : Nat) (hd : 1 ≤ d) (h : SG) (x0_1 : Int32) : mS B d 44 [.ref 27, .int x0_1] h = if (sF h 27 6) = x0_1 then kV (mS B (d - 1) 30 [.ref 27] h) (fun h1 => some (.inl none, h1)) else kR (mS B (d - 1) 33 [.ref 27, .int (2 : Int32), .int (sF h 27 7)] h) (fun a3 h2 => ckS (Nat.beq a3 29) (some (.inr 0, h2))) := by
  obtain ⟨d, rfl⟩ : ∃ e, d = e + 1 := ⟨d - 1, by omega⟩
  show evS B (d + 1) 44 0 [(0, .ref 27), (1, .int x0_1)] [] h = _
  refine (es_st 3 (pc' := 5) (L' := [(0, .ref 27), (1, .int x0_1)]) (S' := [.int x0_1, .int (sF h 27 6)]) (h' := h) rfl).trans ?_
  refine (is_eq (t := 18) rfl rfl rfl).trans (if_cg ?_ ?_)
  · refine (es_st 1 (pc' := 19) (L' := [(0, .ref 27), (1, .int x0_1)]) (S' := [.ref 27]) (h' := h) rfl).trans ?_
    refine (es_cV (b := true) (k' := 30) (pc' := 22) (as := [.ref 27]) (S' := []) (L' := [(0, .ref 27), (1, .int x0_1)]) (h' := h) rfl rfl rfl rfl rfl).trans (kV_cg fun h1 => ?_)
    exact es_fin rfl rfl rfl
  · refine (es_st 4 (pc' := 14) (L' := [(0, .ref 27), (1, .int x0_1)]) (S' := [.int (sF h 27 7), .int (2 : Int32), .ref 27]) (h' := h) rfl).trans ?_
    refine (es_cR (b := true) (k' := 33) (pc' := 17) (as := [.ref 27, .int (2 : Int32), .int (sF h 27 7)]) (S' := []) (L' := [(0, .ref 27), (1, .int x0_1)]) (h' := h) rfl rfl rfl rfl rfl).trans (kR_cg fun a3 h2 => ?_)
    exact es_thr rfl rfl rfl
theorem sX2_isHere_0 (B : Bool) (d : Nat) (hd : 1 ≤ d) (h : SG) (x0_1 : Int32) : mS B d 45 [.ref 27, .int x0_1] h = if (sF h 27 6) = x0_1 then kV (mS B (d - 1) 30 [.ref 27] h) (fun h1 => some (.inl (some (.int (1 : Int32))), h1)) else some (.inl (some (.int (0 : Int32))), h) := by
  obtain ⟨d, rfl⟩ : ∃ e, d = e + 1 := ⟨d - 1, by omega⟩
  show evS B (d + 1) 45 0 [(0, .ref 27), (1, .int x0_1)] [] h = _
  refine (es_st 3 (pc' := 5) (L' := [(0, .ref 27), (1, .int x0_1)]) (S' := [.int x0_1, .int (sF h 27 6)]) (h' := h) rfl).trans ?_
  refine (is_eq (t := 10) rfl rfl rfl).trans (if_cg ?_ ?_)
  · refine (es_st 1 (pc' := 11) (L' := [(0, .ref 27), (1, .int x0_1)]) (S' := [.ref 27]) (h' := h) rfl).trans ?_
    refine (es_cV (b := true) (k' := 30) (pc' := 14) (as := [.ref 27]) (S' := []) (L' := [(0, .ref 27), (1, .int x0_1)]) (h' := h) rfl rfl rfl rfl rfl).trans (kV_cg fun h1 => ?_)
    refine (es_st 1 (pc' := 15) (L' := [(0, .ref 27), (1, .int x0_1)]) (S' := [.int (1 : Int32)]) (h' := h1) rfl).trans ?_
    exact es_fin rfl rfl rfl
  · refine (es_st 1 (pc' := 9) (L' := [(0, .ref 27), (1, .int x0_1)]) (S' := [.int (0 : Int32)]) (h' := h) rfl).trans ?_
    exact es_fin rfl rfl rfl
theorem sX6_clear_0 (B : Bool) (d : Nat) (h : SG) : mS B d 129 [.ref 93] h = ob (pSz h 94 (0 : Int32)) (fun h1 => ob (pSz h1 96 (0 : Int32)) (fun h2 => ob (pSz h2 98 (0 : Int32)) (fun h3 => ob (pSz h3 100 (0 : Int32)) (fun h4 => ob (pSz h4 102 (0 : Int32)) (fun h5 => ob (pSz h5 104 (0 : Int32)) (fun h6 => some (.inl none, h6))))))) := by
  show evS B d 129 0 [(0, .ref 93)] [] h = _
  refine (es_st 3 (pc' := 5) (L' := [(0, .ref 93)]) (S' := [.int (0 : Int32), .ref 94]) (h' := h) rfl).trans ?_
  refine (es_ob (o := pSz h 94 (0 : Int32)) (pc' := 8) (L' := [(0, .ref 93)]) (S' := fun z => []) (h' := fun z => z) rfl rfl rfl).trans (ob_cg fun h1 => ?_)
  refine (es_st 3 (pc' := 13) (L' := [(0, .ref 93)]) (S' := [.int (0 : Int32), .ref 96]) (h' := h1) rfl).trans ?_
  refine (es_ob (o := pSz h1 96 (0 : Int32)) (pc' := 16) (L' := [(0, .ref 93)]) (S' := fun z => []) (h' := fun z => z) rfl rfl rfl).trans (ob_cg fun h2 => ?_)
  refine (es_st 3 (pc' := 21) (L' := [(0, .ref 93)]) (S' := [.int (0 : Int32), .ref 98]) (h' := h2) rfl).trans ?_
  refine (es_ob (o := pSz h2 98 (0 : Int32)) (pc' := 24) (L' := [(0, .ref 93)]) (S' := fun z => []) (h' := fun z => z) rfl rfl rfl).trans (ob_cg fun h3 => ?_)
  refine (es_st 3 (pc' := 29) (L' := [(0, .ref 93)]) (S' := [.int (0 : Int32), .ref 100]) (h' := h3) rfl).trans ?_
  refine (es_ob (o := pSz h3 100 (0 : Int32)) (pc' := 32) (L' := [(0, .ref 93)]) (S' := fun z => []) (h' := fun z => z) rfl rfl rfl).trans (ob_cg fun h4 => ?_)
  refine (es_st 3 (pc' := 37) (L' := [(0, .ref 93)]) (S' := [.int (0 : Int32), .ref 102]) (h' := h4) rfl).trans ?_
  refine (es_ob (o := pSz h4 102 (0 : Int32)) (pc' := 40) (L' := [(0, .ref 93)]) (S' := fun z => []) (h' := fun z => z) rfl rfl rfl).trans (ob_cg fun h5 => ?_)
  refine (es_st 3 (pc' := 45) (L' := [(0, .ref 93)]) (S' := [.int (0 : Int32), .ref 104]) (h' := h5) rfl).trans ?_
  refine (es_ob (o := pSz h5 104 (0 : Int32)) (pc' := 48) (L' := [(0, .ref 93)]) (S' := fun z => []) (h' := fun z => z) rfl rfl rfl).trans (ob_cg fun h6 => ?_)
  exact es_fin rfl rfl rfl
theorem sX6_countA_0 (B : Bool) (d : Nat) (h : SG) : mS B d 130 [.ref 41] h = some (.inl (some (.int ((Int32.ofNat (sW h 44).length) / (7 : Int32)))), h) := by
  show evS B d 130 0 [(0, .ref 41)] [] h = _
  refine (es_st 5 (pc' := 10) (L' := [(0, .ref 41)]) (S' := [.int ((Int32.ofNat (sW h 44).length) / (7 : Int32))]) (h' := h) rfl).trans ?_
  exact es_fin rfl rfl rfl
theorem sX6_count_0 (B : Bool) (d : Nat) (h : SG) : mS B d 130 [.ref 93] h = some (.inl (some (.int ((Int32.ofNat (sW h 96).length) / (7 : Int32)))), h) := by
  show evS B d 130 0 [(0, .ref 93)] [] h = _
  refine (es_st 5 (pc' := 10) (L' := [(0, .ref 93)]) (S' := [.int ((Int32.ofNat (sW h 96).length) / (7 : Int32))]) (h' := h) rfl).trans ?_
  exact es_fin rfl rfl rfl
theorem sX6_findModule_0 (B : Bool) (d : Nat) (hd : 4 ≤ d) (h : SG) (x0_2 : Int32) (x0_3 : Int32) : mS B d 131 [.ref 93, .ref 30, .int x0_2, .int x0_3] h = evS B d 131 3 [(0, .ref 93), (1, .ref 30), (2, .int x0_2), (3, .int x0_3), (4, .int (0 : Int32))] [] h := by
  obtain ⟨d, rfl⟩ : ∃ e, d = e + 4 := ⟨d - 4, by omega⟩
  show evS B (d + 4) 131 0 [(0, .ref 93), (1, .ref 30), (2, .int x0_2), (3, .int x0_3)] [] h = _
  refine (es_st 2 (pc' := 3) (L' := [(4, .int (0 : Int32)), (0, .ref 93), (1, .ref 30), (2, .int x0_2), (3, .int x0_3)]) (S' := []) (h' := h) rfl).trans ?_
  exact es_cut rfl rfl rfl
theorem sX6_findModule_3 (B : Bool) (d : Nat) (hd : 4 ≤ d) (h : SG) (x0_2 : Int32) (x0_3 : Int32) (x0_4 : Int32) : evS B d 131 3 [(0, .ref 93), (1, .ref 30), (2, .int x0_2), (3, .int x0_3), (4, .int x0_4)] [] h = kI (mS B (d - 1) 130 [.ref 93] h) (fun x2 h1 => if x2 ≤ x0_4 then some (.inl (some (.int (-1 : Int32))), h1) else ob (rAt h1 96 (((7 : Int32) * x0_4) + (1 : Int32))) (fun x3 => if x3 = x0_3 then ob (rAt h1 96 ((7 : Int32) * x0_4)) (fun x4 => kI (mS B (d - 1) 132 [.ref 93, .int x4, .int x0_3, .ref 30, .int x0_2] h1) (fun x6 h5 => if x6 = 0 then evS B d 131 3 [(0, .ref 93), (1, .ref 30), (2, .int x0_2), (3, .int x0_3), (4, .int (x0_4 + (1 : Int32)))] [] h5 else some (.inl (some (.int x0_4)), h5))) else evS B d 131 3 [(0, .ref 93), (1, .ref 30), (2, .int x0_2), (3, .int x0_3), (4, .int (x0_4 + (1 : Int32)))] [] h1)) := by
  obtain ⟨d, rfl⟩ : ∃ e, d = e + 4 := ⟨d - 4, by omega⟩
  refine (es_st 2 (pc' := 6) (L' := [(0, .ref 93), (1, .ref 30), (2, .int x0_2), (3, .int x0_3), (4, .int x0_4)]) (S' := [.ref 93, .int x0_4]) (h' := h) rfl).trans ?_
  refine (es_cI (b := true) (k' := 130) (pc' := 9) (as := [.ref 93]) (S' := [.int x0_4]) (L' := [(0, .ref 93), (1, .ref 30), (2, .int x0_2), (3, .int x0_3), (4, .int x0_4)]) (h' := h) rfl rfl rfl rfl rfl).trans (kI_cg fun x2 h1 => ?_)
  refine (is_ge (t := 61) rfl rfl rfl).trans (if_cg ?_ ?_)
  · refine (es_st 1 (pc' := 62) (L' := [(0, .ref 93), (1, .ref 30), (2, .int x0_2), (3, .int x0_3), (4, .int x0_4)]) (S' := [.int (-1 : Int32)]) (h' := h1) rfl).trans ?_
    exact es_fin rfl rfl rfl
  · refine (es_st 7 (pc' := 23) (L' := [(0, .ref 93), (1, .ref 30), (2, .int x0_2), (3, .int x0_3), (4, .int x0_4)]) (S' := [.int (((7 : Int32) * x0_4) + (1 : Int32)), .ref 96]) (h' := h1) rfl).trans ?_
    refine (es_ob (o := rAt h1 96 (((7 : Int32) * x0_4) + (1 : Int32))) (pc' := 26) (L' := [(0, .ref 93), (1, .ref 30), (2, .int x0_2), (3, .int x0_3), (4, .int x0_4)]) (S' := fun z => [.int z]) (h' := fun z => h1) rfl rfl rfl).trans (ob_cg fun x3 => ?_)
    refine (es_st 1 (pc' := 27) (L' := [(0, .ref 93), (1, .ref 30), (2, .int x0_2), (3, .int x0_3), (4, .int x0_4)]) (S' := [.int x0_3, .int x3]) (h' := h1) rfl).trans ?_
    refine (is_ne (t := 55) rfl rfl rfl).trans (if_cg ?_ ?_)
    · refine (es_st 6 (pc' := 40) (L' := [(0, .ref 93), (1, .ref 30), (2, .int x0_2), (3, .int x0_3), (4, .int x0_4)]) (S' := [.int ((7 : Int32) * x0_4), .ref 96, .ref 93]) (h' := h1) rfl).trans ?_
      refine (es_ob (o := rAt h1 96 ((7 : Int32) * x0_4)) (pc' := 43) (L' := [(0, .ref 93), (1, .ref 30), (2, .int x0_2), (3, .int x0_3), (4, .int x0_4)]) (S' := fun z => [.int z, .ref 93]) (h' := fun z => h1) rfl rfl rfl).trans (ob_cg fun x4 => ?_)
      refine (es_st 3 (pc' := 46) (L' := [(0, .ref 93), (1, .ref 30), (2, .int x0_2), (3, .int x0_3), (4, .int x0_4)]) (S' := [.int x0_2, .ref 30, .int x0_3, .int x4, .ref 93]) (h' := h1) rfl).trans ?_
      refine (es_cI (b := true) (k' := 132) (pc' := 49) (as := [.ref 93, .int x4, .int x0_3, .ref 30, .int x0_2]) (S' := []) (L' := [(0, .ref 93), (1, .ref 30), (2, .int x0_2), (3, .int x0_3), (4, .int x0_4)]) (h' := h1) rfl rfl rfl rfl rfl).trans (kI_cg fun x6 h5 => ?_)
      refine (zs_eq (t := 55) rfl rfl rfl).trans (if_cg ?_ ?_)
      · refine (es_st 2 (pc' := 3) (L' := [(4, .int (x0_4 + (1 : Int32))), (0, .ref 93), (1, .ref 30), (2, .int x0_2), (3, .int x0_3)]) (S' := []) (h' := h5) rfl).trans ?_
        exact es_cut rfl rfl rfl
      · refine (es_st 1 (pc' := 54) (L' := [(0, .ref 93), (1, .ref 30), (2, .int x0_2), (3, .int x0_3), (4, .int x0_4)]) (S' := [.int x0_4]) (h' := h5) rfl).trans ?_
        exact es_fin rfl rfl rfl
    · refine (es_st 2 (pc' := 3) (L' := [(4, .int (x0_4 + (1 : Int32))), (0, .ref 93), (1, .ref 30), (2, .int x0_2), (3, .int x0_3)]) (S' := []) (h' := h1) rfl).trans ?_
      exact es_cut rfl rfl rfl
theorem sX6_isTextA_0 (B : Bool) (d : Nat) (h : SG) (x0_1 : Int32) (x0_2 : Int32) (x0_4 : Int32) : mS B d 132 [.ref 41, .int x0_1, .int x0_2, .ref 30, .int x0_4] h = evS B d 132 6 [(0, .ref 41), (1, .int x0_1), (2, .int x0_2), (3, .ref 30), (4, .int x0_4), (5, .int (1 : Int32)), (6, .int (0 : Int32))] [] h := by
  show evS B d 132 0 [(0, .ref 41), (1, .int x0_1), (2, .int x0_2), (3, .ref 30), (4, .int x0_4)] [] h = _
  refine (es_st 4 (pc' := 6) (L' := [(6, .int (0 : Int32)), (5, .int (1 : Int32)), (0, .ref 41), (1, .int x0_1), (2, .int x0_2), (3, .ref 30), (4, .int x0_4)]) (S' := []) (h' := h) rfl).trans ?_
  exact es_cut rfl rfl rfl
theorem sX6_isTextA_6 (B : Bool) (d : Nat) (h : SG) (x0_1 : Int32) (x0_2 : Int32) (x0_4 : Int32) (x0_5 : Int32) (x0_6 : Int32) : evS B d 132 6 [(0, .ref 41), (1, .int x0_1), (2, .int x0_2), (3, .ref 30), (4, .int x0_4), (5, .int x0_5), (6, .int x0_6)] [] h = if x0_2 ≤ x0_6 then if x0_5 = 0 ∨ x0_5 = 1 then some (.inl (some (.int x0_5)), h) else none else if x0_5 = 0 then if x0_5 = 0 ∨ x0_5 = 1 then some (.inl (some (.int x0_5)), h) else none else if ixN (x0_1 + x0_6) 65536 = true then if ixN (x0_4 + x0_6) 65536 = true then if (sF h 54 (x0_1 + x0_6).toNatClampNeg) = (sF h 30 (x0_4 + x0_6).toNatClampNeg) then evS B d 132 6 [(0, .ref 41), (1, .int x0_1), (2, .int x0_2), (3, .ref 30), (4, .int x0_4), (5, .int (1 : Int32)), (6, .int (x0_6 + (1 : Int32)))] [] h else evS B d 132 6 [(0, .ref 41), (1, .int x0_1), (2, .int x0_2), (3, .ref 30), (4, .int x0_4), (5, .int (0 : Int32)), (6, .int (x0_6 + (1 : Int32)))] [] h else none else none := by
  refine (es_st 2 (pc' := 9) (L' := [(0, .ref 41), (1, .int x0_1), (2, .int x0_2), (3, .ref 30), (4, .int x0_4), (5, .int x0_5), (6, .int x0_6)]) (S' := [.int x0_2, .int x0_6]) (h' := h) rfl).trans ?_
  refine (is_ge (t := 49) rfl rfl rfl).trans (if_cg ?_ ?_)
  · refine (es_st 1 (pc' := 51) (L' := [(0, .ref 41), (1, .int x0_1), (2, .int x0_2), (3, .ref 30), (4, .int x0_4), (5, .int x0_5), (6, .int x0_6)]) (S' := [.int x0_5]) (h' := h) rfl).trans ?_
    exact es_finZ rfl rfl rfl
  · refine (es_st 1 (pc' := 14) (L' := [(0, .ref 41), (1, .int x0_1), (2, .int x0_2), (3, .ref 30), (4, .int x0_4), (5, .int x0_5), (6, .int x0_6)]) (S' := [.int x0_5]) (h' := h) rfl).trans ?_
    refine (zs_eq (t := 49) rfl rfl rfl).trans (if_cg ?_ ?_)
    · refine (es_st 1 (pc' := 51) (L' := [(0, .ref 41), (1, .int x0_1), (2, .int x0_2), (3, .ref 30), (4, .int x0_4), (5, .int x0_5), (6, .int x0_6)]) (S' := [.int x0_5]) (h' := h) rfl).trans ?_
      exact es_finZ rfl rfl rfl
    · refine (es_st 5 (pc' := 25) (L' := [(0, .ref 41), (1, .int x0_1), (2, .int x0_2), (3, .ref 30), (4, .int x0_4), (5, .int x0_5), (6, .int x0_6)]) (S' := [.int (x0_1 + x0_6), .ref 54]) (h' := h) rfl).trans ?_
      refine (es_ix (c := ixN (x0_1 + x0_6) 65536 = true) (x := (sF h 54 (x0_1 + x0_6).toNatClampNeg)) (pc' := 26) (L' := [(0, .ref 41), (1, .int x0_1), (2, .int x0_2), (3, .ref 30), (4, .int x0_4), (5, .int x0_5), (6, .int x0_6)]) (S' := fun z => [.int z]) (h' := fun z => h) rfl rfl rfl).trans (if_cgn ?_)
      refine (es_st 4 (pc' := 32) (L' := [(0, .ref 41), (1, .int x0_1), (2, .int x0_2), (3, .ref 30), (4, .int x0_4), (5, .int x0_5), (6, .int x0_6)]) (S' := [.int (x0_4 + x0_6), .ref 30, .int (sF h 54 (x0_1 + x0_6).toNatClampNeg)]) (h' := h) rfl).trans ?_
      refine (es_ix (c := ixN (x0_4 + x0_6) 65536 = true) (x := (sF h 30 (x0_4 + x0_6).toNatClampNeg)) (pc' := 33) (L' := [(0, .ref 41), (1, .int x0_1), (2, .int x0_2), (3, .ref 30), (4, .int x0_4), (5, .int x0_5), (6, .int x0_6)]) (S' := fun z => [.int z, .int (sF h 54 (x0_1 + x0_6).toNatClampNeg)]) (h' := fun z => h) rfl rfl rfl).trans (if_cgn ?_)
      refine (is_ne (t := 40) rfl rfl rfl).trans (if_cg ?_ ?_)
      · refine (es_st 5 (pc' := 6) (L' := [(6, .int (x0_6 + (1 : Int32))), (5, .int (1 : Int32)), (0, .ref 41), (1, .int x0_1), (2, .int x0_2), (3, .ref 30), (4, .int x0_4)]) (S' := []) (h' := h) rfl).trans ?_
        exact es_cut rfl rfl rfl
      · refine (es_st 4 (pc' := 6) (L' := [(6, .int (x0_6 + (1 : Int32))), (5, .int (0 : Int32)), (0, .ref 41), (1, .int x0_1), (2, .int x0_2), (3, .ref 30), (4, .int x0_4)]) (S' := []) (h' := h) rfl).trans ?_
        exact es_cut rfl rfl rfl
theorem sX6_isText_0 (B : Bool) (d : Nat) (h : SG) (x0_1 : Int32) (x0_2 : Int32) (x0_4 : Int32) : mS B d 132 [.ref 93, .int x0_1, .int x0_2, .ref 30, .int x0_4] h = evS B d 132 6 [(0, .ref 93), (1, .int x0_1), (2, .int x0_2), (3, .ref 30), (4, .int x0_4), (5, .int (1 : Int32)), (6, .int (0 : Int32))] [] h := by
  show evS B d 132 0 [(0, .ref 93), (1, .int x0_1), (2, .int x0_2), (3, .ref 30), (4, .int x0_4)] [] h = _
  refine (es_st 4 (pc' := 6) (L' := [(6, .int (0 : Int32)), (5, .int (1 : Int32)), (0, .ref 93), (1, .int x0_1), (2, .int x0_2), (3, .ref 30), (4, .int x0_4)]) (S' := []) (h' := h) rfl).trans ?_
  exact es_cut rfl rfl rfl
theorem sX6_isText_6 (B : Bool) (d : Nat) (h : SG) (x0_1 : Int32) (x0_2 : Int32) (x0_4 : Int32) (x0_5 : Int32) (x0_6 : Int32) : evS B d 132 6 [(0, .ref 93), (1, .int x0_1), (2, .int x0_2), (3, .ref 30), (4, .int x0_4), (5, .int x0_5), (6, .int x0_6)] [] h = if x0_2 ≤ x0_6 then if x0_5 = 0 ∨ x0_5 = 1 then some (.inl (some (.int x0_5)), h) else none else if x0_5 = 0 then if x0_5 = 0 ∨ x0_5 = 1 then some (.inl (some (.int x0_5)), h) else none else if ixN (x0_1 + x0_6) 65536 = true then if ixN (x0_4 + x0_6) 65536 = true then if (sF h 106 (x0_1 + x0_6).toNatClampNeg) = (sF h 30 (x0_4 + x0_6).toNatClampNeg) then evS B d 132 6 [(0, .ref 93), (1, .int x0_1), (2, .int x0_2), (3, .ref 30), (4, .int x0_4), (5, .int (1 : Int32)), (6, .int (x0_6 + (1 : Int32)))] [] h else evS B d 132 6 [(0, .ref 93), (1, .int x0_1), (2, .int x0_2), (3, .ref 30), (4, .int x0_4), (5, .int (0 : Int32)), (6, .int (x0_6 + (1 : Int32)))] [] h else none else none := by
  refine (es_st 2 (pc' := 9) (L' := [(0, .ref 93), (1, .int x0_1), (2, .int x0_2), (3, .ref 30), (4, .int x0_4), (5, .int x0_5), (6, .int x0_6)]) (S' := [.int x0_2, .int x0_6]) (h' := h) rfl).trans ?_
  refine (is_ge (t := 49) rfl rfl rfl).trans (if_cg ?_ ?_)
  · refine (es_st 1 (pc' := 51) (L' := [(0, .ref 93), (1, .int x0_1), (2, .int x0_2), (3, .ref 30), (4, .int x0_4), (5, .int x0_5), (6, .int x0_6)]) (S' := [.int x0_5]) (h' := h) rfl).trans ?_
    exact es_finZ rfl rfl rfl
  · refine (es_st 1 (pc' := 14) (L' := [(0, .ref 93), (1, .int x0_1), (2, .int x0_2), (3, .ref 30), (4, .int x0_4), (5, .int x0_5), (6, .int x0_6)]) (S' := [.int x0_5]) (h' := h) rfl).trans ?_
    refine (zs_eq (t := 49) rfl rfl rfl).trans (if_cg ?_ ?_)
    · refine (es_st 1 (pc' := 51) (L' := [(0, .ref 93), (1, .int x0_1), (2, .int x0_2), (3, .ref 30), (4, .int x0_4), (5, .int x0_5), (6, .int x0_6)]) (S' := [.int x0_5]) (h' := h) rfl).trans ?_
      exact es_finZ rfl rfl rfl
    · refine (es_st 5 (pc' := 25) (L' := [(0, .ref 93), (1, .int x0_1), (2, .int x0_2), (3, .ref 30), (4, .int x0_4), (5, .int x0_5), (6, .int x0_6)]) (S' := [.int (x0_1 + x0_6), .ref 106]) (h' := h) rfl).trans ?_
      refine (es_ix (c := ixN (x0_1 + x0_6) 65536 = true) (x := (sF h 106 (x0_1 + x0_6).toNatClampNeg)) (pc' := 26) (L' := [(0, .ref 93), (1, .int x0_1), (2, .int x0_2), (3, .ref 30), (4, .int x0_4), (5, .int x0_5), (6, .int x0_6)]) (S' := fun z => [.int z]) (h' := fun z => h) rfl rfl rfl).trans (if_cgn ?_)
      refine (es_st 4 (pc' := 32) (L' := [(0, .ref 93), (1, .int x0_1), (2, .int x0_2), (3, .ref 30), (4, .int x0_4), (5, .int x0_5), (6, .int x0_6)]) (S' := [.int (x0_4 + x0_6), .ref 30, .int (sF h 106 (x0_1 + x0_6).toNatClampNeg)]) (h' := h) rfl).trans ?_
      refine (es_ix (c := ixN (x0_4 + x0_6) 65536 = true) (x := (sF h 30 (x0_4 + x0_6).toNatClampNeg)) (pc' := 33) (L' := [(0, .ref 93), (1, .int x0_1), (2, .int x0_2), (3, .ref 30), (4, .int x0_4), (5, .int x0_5), (6, .int x0_6)]) (S' := fun z => [.int z, .int (sF h 106 (x0_1 + x0_6).toNatClampNeg)]) (h' := fun z => h) rfl rfl rfl).trans (if_cgn ?_)
      refine (is_ne (t := 40) rfl rfl rfl).trans (if_cg ?_ ?_)
      · refine (es_st 5 (pc' := 6) (L' := [(6, .int (x0_6 + (1 : Int32))), (5, .int (1 : Int32)), (0, .ref 93), (1, .int x0_1), (2, .int x0_2), (3, .ref 30), (4, .int x0_4)]) (S' := []) (h' := h) rfl).trans ?_
        exact es_cut rfl rfl rfl
      · refine (es_st 4 (pc' := 6) (L' := [(6, .int (x0_6 + (1 : Int32))), (5, .int (0 : Int32)), (0, .ref 93), (1, .int x0_1), (2, .int x0_2), (3, .ref 30), (4, .int x0_4)]) (S' := []) (h' := h) rfl).trans ?_
        exact es_cut rfl rfl rfl
theorem sX6_findA_0 (B : Bool) (d : Nat) (hd : 1 ≤ d) (h : SG) (x0_1 : Int32) (x0_3 : Int32) (x0_4 : Int32) : mS B d 133 [.ref 41, .int x0_1, .ref 30, .int x0_3, .int x0_4] h = kI (mS B (d - 1) 134 [.ref 41, .int x0_1] h) (fun x2 h1 => evS B d 133 7 [(0, .ref 41), (1, .int x0_1), (2, .ref 30), (3, .int x0_3), (4, .int x0_4), (5, .int x2)] [] h1) := by
  obtain ⟨d, rfl⟩ : ∃ e, d = e + 1 := ⟨d - 1, by omega⟩
  show evS B (d + 1) 133 0 [(0, .ref 41), (1, .int x0_1), (2, .ref 30), (3, .int x0_3), (4, .int x0_4)] [] h = _
  refine (es_st 2 (pc' := 2) (L' := [(0, .ref 41), (1, .int x0_1), (2, .ref 30), (3, .int x0_3), (4, .int x0_4)]) (S' := [.int x0_1, .ref 41]) (h' := h) rfl).trans ?_
  refine (es_cI (b := true) (k' := 134) (pc' := 5) (as := [.ref 41, .int x0_1]) (S' := []) (L' := [(0, .ref 41), (1, .int x0_1), (2, .ref 30), (3, .int x0_3), (4, .int x0_4)]) (h' := h) rfl rfl rfl rfl rfl).trans (kI_cg fun x2 h1 => ?_)
  refine (es_st 1 (pc' := 7) (L' := [(5, .int x2), (0, .ref 41), (1, .int x0_1), (2, .ref 30), (3, .int x0_3), (4, .int x0_4)]) (S' := []) (h' := h1) rfl).trans ?_
  exact es_cut rfl rfl rfl
theorem sX6_findA_7 (B : Bool) (d : Nat) (hd : 1 ≤ d) (h : SG) (x0_1 : Int32) (x0_3 : Int32) (x0_4 : Int32) (x0_5 : Int32) : evS B d 133 7 [(0, .ref 41), (1, .int x0_1), (2, .ref 30), (3, .int x0_3), (4, .int x0_4), (5, .int x0_5)] [] h = kI (mS B (d - 1) 135 [.ref 41, .int x0_1] h) (fun x2 h1 => if x2 ≤ x0_5 then some (.inl (some (.int (-1 : Int32))), h1) else kI (mS B (d - 1) 136 [.ref 41, .int x0_5, .int (1 : Int32)] h1) (fun x4 h3 => if x4 = x0_4 then kI (mS B (d - 1) 136 [.ref 41, .int x0_5, .int (0 : Int32)] h3) (fun x6 h5 => kI (mS B (d - 1) 132 [.ref 41, .int x6, .int x0_4, .ref 30, .int x0_3] h5) (fun x8 h7 => if x8 = 0 then evS B d 133 7 [(0, .ref 41), (1, .int x0_1), (2, .ref 30), (3, .int x0_3), (4, .int x0_4), (5, .int (x0_5 + (1 : Int32)))] [] h7 else some (.inl (some (.int x0_5)), h7))) else evS B d 133 7 [(0, .ref 41), (1, .int x0_1), (2, .ref 30), (3, .int x0_3), (4, .int x0_4), (5, .int (x0_5 + (1 : Int32)))] [] h3)) := by
  obtain ⟨d, rfl⟩ : ∃ e, d = e + 1 := ⟨d - 1, by omega⟩
  refine (es_st 3 (pc' := 11) (L' := [(0, .ref 41), (1, .int x0_1), (2, .ref 30), (3, .int x0_3), (4, .int x0_4), (5, .int x0_5)]) (S' := [.int x0_1, .ref 41, .int x0_5]) (h' := h) rfl).trans ?_
  refine (es_cI (b := true) (k' := 135) (pc' := 14) (as := [.ref 41, .int x0_1]) (S' := [.int x0_5]) (L' := [(0, .ref 41), (1, .int x0_1), (2, .ref 30), (3, .int x0_3), (4, .int x0_4), (5, .int x0_5)]) (h' := h) rfl rfl rfl rfl rfl).trans (kI_cg fun x2 h1 => ?_)
  refine (is_ge (t := 56) rfl rfl rfl).trans (if_cg ?_ ?_)
  · refine (es_st 1 (pc' := 57) (L' := [(0, .ref 41), (1, .int x0_1), (2, .ref 30), (3, .int x0_3), (4, .int x0_4), (5, .int x0_5)]) (S' := [.int (-1 : Int32)]) (h' := h1) rfl).trans ?_
    exact es_fin rfl rfl rfl
  · refine (es_st 3 (pc' := 21) (L' := [(0, .ref 41), (1, .int x0_1), (2, .ref 30), (3, .int x0_3), (4, .int x0_4), (5, .int x0_5)]) (S' := [.int (1 : Int32), .int x0_5, .ref 41]) (h' := h1) rfl).trans ?_
    refine (es_cI (b := true) (k' := 136) (pc' := 24) (as := [.ref 41, .int x0_5, .int (1 : Int32)]) (S' := []) (L' := [(0, .ref 41), (1, .int x0_1), (2, .ref 30), (3, .int x0_3), (4, .int x0_4), (5, .int x0_5)]) (h' := h1) rfl rfl rfl rfl rfl).trans (kI_cg fun x4 h3 => ?_)
    refine (es_st 1 (pc' := 26) (L' := [(0, .ref 41), (1, .int x0_1), (2, .ref 30), (3, .int x0_3), (4, .int x0_4), (5, .int x0_5)]) (S' := [.int x0_4, .int x4]) (h' := h3) rfl).trans ?_
    refine (is_ne (t := 50) rfl rfl rfl).trans (if_cg ?_ ?_)
    · refine (es_st 4 (pc' := 34) (L' := [(0, .ref 41), (1, .int x0_1), (2, .ref 30), (3, .int x0_3), (4, .int x0_4), (5, .int x0_5)]) (S' := [.int (0 : Int32), .int x0_5, .ref 41, .ref 41]) (h' := h3) rfl).trans ?_
      refine (es_cI (b := true) (k' := 136) (pc' := 37) (as := [.ref 41, .int x0_5, .int (0 : Int32)]) (S' := [.ref 41]) (L' := [(0, .ref 41), (1, .int x0_1), (2, .ref 30), (3, .int x0_3), (4, .int x0_4), (5, .int x0_5)]) (h' := h3) rfl rfl rfl rfl rfl).trans (kI_cg fun x6 h5 => ?_)
      refine (es_st 3 (pc' := 41) (L' := [(0, .ref 41), (1, .int x0_1), (2, .ref 30), (3, .int x0_3), (4, .int x0_4), (5, .int x0_5)]) (S' := [.int x0_3, .ref 30, .int x0_4, .int x6, .ref 41]) (h' := h5) rfl).trans ?_
      refine (es_cI (b := true) (k' := 132) (pc' := 44) (as := [.ref 41, .int x6, .int x0_4, .ref 30, .int x0_3]) (S' := []) (L' := [(0, .ref 41), (1, .int x0_1), (2, .ref 30), (3, .int x0_3), (4, .int x0_4), (5, .int x0_5)]) (h' := h5) rfl rfl rfl rfl rfl).trans (kI_cg fun x8 h7 => ?_)
      refine (zs_eq (t := 50) rfl rfl rfl).trans (if_cg ?_ ?_)
      · refine (es_st 2 (pc' := 7) (L' := [(5, .int (x0_5 + (1 : Int32))), (0, .ref 41), (1, .int x0_1), (2, .ref 30), (3, .int x0_3), (4, .int x0_4)]) (S' := []) (h' := h7) rfl).trans ?_
        exact es_cut rfl rfl rfl
      · refine (es_st 1 (pc' := 49) (L' := [(0, .ref 41), (1, .int x0_1), (2, .ref 30), (3, .int x0_3), (4, .int x0_4), (5, .int x0_5)]) (S' := [.int x0_5]) (h' := h7) rfl).trans ?_
        exact es_fin rfl rfl rfl
    · refine (es_st 2 (pc' := 7) (L' := [(5, .int (x0_5 + (1 : Int32))), (0, .ref 41), (1, .int x0_1), (2, .ref 30), (3, .int x0_3), (4, .int x0_4)]) (S' := []) (h' := h3) rfl).trans ?_
      exact es_cut rfl rfl rfl
theorem sX6_find_0 (B : Bool) (d : Nat) (hd : 1 ≤ d) (h : SG) (x0_1 : Int32) (x0_3 : Int32) (x0_4 : Int32) : mS B d 133 [.ref 93, .int x0_1, .ref 30, .int x0_3, .int x0_4] h = kI (mS B (d - 1) 134 [.ref 93, .int x0_1] h) (fun x2 h1 => evS B d 133 7 [(0, .ref 93), (1, .int x0_1), (2, .ref 30), (3, .int x0_3), (4, .int x0_4), (5, .int x2)] [] h1) := by
  obtain ⟨d, rfl⟩ : ∃ e, d = e + 1 := ⟨d - 1, by omega⟩
  show evS B (d + 1) 133 0 [(0, .ref 93), (1, .int x0_1), (2, .ref 30), (3, .int x0_3), (4, .int x0_4)] [] h = _
  refine (es_st 2 (pc' := 2) (L' := [(0, .ref 93), (1, .int x0_1), (2, .ref 30), (3, .int x0_3), (4, .int x0_4)]) (S' := [.int x0_1, .ref 93]) (h' := h) rfl).trans ?_
  refine (es_cI (b := true) (k' := 134) (pc' := 5) (as := [.ref 93, .int x0_1]) (S' := []) (L' := [(0, .ref 93), (1, .int x0_1), (2, .ref 30), (3, .int x0_3), (4, .int x0_4)]) (h' := h) rfl rfl rfl rfl rfl).trans (kI_cg fun x2 h1 => ?_)
  refine (es_st 1 (pc' := 7) (L' := [(5, .int x2), (0, .ref 93), (1, .int x0_1), (2, .ref 30), (3, .int x0_3), (4, .int x0_4)]) (S' := []) (h' := h1) rfl).trans ?_
  exact es_cut rfl rfl rfl
theorem sX6_find_7 (B : Bool) (d : Nat) (hd : 1 ≤ d) (h : SG) (x0_1 : Int32) (x0_3 : Int32) (x0_4 : Int32) (x0_5 : Int32) : evS B d 133 7 [(0, .ref 93), (1, .int x0_1), (2, .ref 30), (3, .int x0_3), (4, .int x0_4), (5, .int x0_5)] [] h = kI (mS B (d - 1) 135 [.ref 93, .int x0_1] h) (fun x2 h1 => if x2 ≤ x0_5 then some (.inl (some (.int (-1 : Int32))), h1) else kI (mS B (d - 1) 136 [.ref 93, .int x0_5, .int (1 : Int32)] h1) (fun x4 h3 => if x4 = x0_4 then kI (mS B (d - 1) 136 [.ref 93, .int x0_5, .int (0 : Int32)] h3) (fun x6 h5 => kI (mS B (d - 1) 132 [.ref 93, .int x6, .int x0_4, .ref 30, .int x0_3] h5) (fun x8 h7 => if x8 = 0 then evS B d 133 7 [(0, .ref 93), (1, .int x0_1), (2, .ref 30), (3, .int x0_3), (4, .int x0_4), (5, .int (x0_5 + (1 : Int32)))] [] h7 else some (.inl (some (.int x0_5)), h7))) else evS B d 133 7 [(0, .ref 93), (1, .int x0_1), (2, .ref 30), (3, .int x0_3), (4, .int x0_4), (5, .int (x0_5 + (1 : Int32)))] [] h3)) := by
  obtain ⟨d, rfl⟩ : ∃ e, d = e + 1 := ⟨d - 1, by omega⟩
  refine (es_st 3 (pc' := 11) (L' := [(0, .ref 93), (1, .int x0_1), (2, .ref 30), (3, .int x0_3), (4, .int x0_4), (5, .int x0_5)]) (S' := [.int x0_1, .ref 93, .int x0_5]) (h' := h) rfl).trans ?_
  refine (es_cI (b := true) (k' := 135) (pc' := 14) (as := [.ref 93, .int x0_1]) (S' := [.int x0_5]) (L' := [(0, .ref 93), (1, .int x0_1), (2, .ref 30), (3, .int x0_3), (4, .int x0_4), (5, .int x0_5)]) (h' := h) rfl rfl rfl rfl rfl).trans (kI_cg fun x2 h1 => ?_)
  refine (is_ge (t := 56) rfl rfl rfl).trans (if_cg ?_ ?_)
  · refine (es_st 1 (pc' := 57) (L' := [(0, .ref 93), (1, .int x0_1), (2, .ref 30), (3, .int x0_3), (4, .int x0_4), (5, .int x0_5)]) (S' := [.int (-1 : Int32)]) (h' := h1) rfl).trans ?_
    exact es_fin rfl rfl rfl
  · refine (es_st 3 (pc' := 21) (L' := [(0, .ref 93), (1, .int x0_1), (2, .ref 30), (3, .int x0_3), (4, .int x0_4), (5, .int x0_5)]) (S' := [.int (1 : Int32), .int x0_5, .ref 93]) (h' := h1) rfl).trans ?_
    refine (es_cI (b := true) (k' := 136) (pc' := 24) (as := [.ref 93, .int x0_5, .int (1 : Int32)]) (S' := []) (L' := [(0, .ref 93), (1, .int x0_1), (2, .ref 30), (3, .int x0_3), (4, .int x0_4), (5, .int x0_5)]) (h' := h1) rfl rfl rfl rfl rfl).trans (kI_cg fun x4 h3 => ?_)
    refine (es_st 1 (pc' := 26) (L' := [(0, .ref 93), (1, .int x0_1), (2, .ref 30), (3, .int x0_3), (4, .int x0_4), (5, .int x0_5)]) (S' := [.int x0_4, .int x4]) (h' := h3) rfl).trans ?_
    refine (is_ne (t := 50) rfl rfl rfl).trans (if_cg ?_ ?_)
    · refine (es_st 4 (pc' := 34) (L' := [(0, .ref 93), (1, .int x0_1), (2, .ref 30), (3, .int x0_3), (4, .int x0_4), (5, .int x0_5)]) (S' := [.int (0 : Int32), .int x0_5, .ref 93, .ref 93]) (h' := h3) rfl).trans ?_
      refine (es_cI (b := true) (k' := 136) (pc' := 37) (as := [.ref 93, .int x0_5, .int (0 : Int32)]) (S' := [.ref 93]) (L' := [(0, .ref 93), (1, .int x0_1), (2, .ref 30), (3, .int x0_3), (4, .int x0_4), (5, .int x0_5)]) (h' := h3) rfl rfl rfl rfl rfl).trans (kI_cg fun x6 h5 => ?_)
      refine (es_st 3 (pc' := 41) (L' := [(0, .ref 93), (1, .int x0_1), (2, .ref 30), (3, .int x0_3), (4, .int x0_4), (5, .int x0_5)]) (S' := [.int x0_3, .ref 30, .int x0_4, .int x6, .ref 93]) (h' := h5) rfl).trans ?_
      refine (es_cI (b := true) (k' := 132) (pc' := 44) (as := [.ref 93, .int x6, .int x0_4, .ref 30, .int x0_3]) (S' := []) (L' := [(0, .ref 93), (1, .int x0_1), (2, .ref 30), (3, .int x0_3), (4, .int x0_4), (5, .int x0_5)]) (h' := h5) rfl rfl rfl rfl rfl).trans (kI_cg fun x8 h7 => ?_)
      refine (zs_eq (t := 50) rfl rfl rfl).trans (if_cg ?_ ?_)
      · refine (es_st 2 (pc' := 7) (L' := [(5, .int (x0_5 + (1 : Int32))), (0, .ref 93), (1, .int x0_1), (2, .ref 30), (3, .int x0_3), (4, .int x0_4)]) (S' := []) (h' := h7) rfl).trans ?_
        exact es_cut rfl rfl rfl
      · refine (es_st 1 (pc' := 49) (L' := [(0, .ref 93), (1, .int x0_1), (2, .ref 30), (3, .int x0_3), (4, .int x0_4), (5, .int x0_5)]) (S' := [.int x0_5]) (h' := h7) rfl).trans ?_
        exact es_fin rfl rfl rfl
    · refine (es_st 2 (pc' := 7) (L' := [(5, .int (x0_5 + (1 : Int32))), (0, .ref 93), (1, .int x0_1), (2, .ref 30), (3, .int x0_3), (4, .int x0_4)]) (S' := []) (h' := h3) rfl).trans ?_
      exact es_cut rfl rfl rfl
theorem sX6_firstSymbolA_0 (B : Bool) (d : Nat) (hd : 4 ≤ d) (h : SG) (x0_1 : Int32) : mS B d 134 [.ref 41, .int x0_1] h = ob (rAt h 44 (((7 : Int32) * x0_1) + (2 : Int32))) (fun x1 => some (.inl (some (.int x1)), h)) := by
  obtain ⟨d, rfl⟩ : ∃ e, d = e + 4 := ⟨d - 4, by omega⟩
  show evS B (d + 4) 134 0 [(0, .ref 41), (1, .int x0_1)] [] h = _
  refine (es_st 7 (pc' := 10) (L' := [(0, .ref 41), (1, .int x0_1)]) (S' := [.int (((7 : Int32) * x0_1) + (2 : Int32)), .ref 44]) (h' := h) rfl).trans ?_
  refine (es_ob (o := rAt h 44 (((7 : Int32) * x0_1) + (2 : Int32))) (pc' := 13) (L' := [(0, .ref 41), (1, .int x0_1)]) (S' := fun z => [.int z]) (h' := fun z => h) rfl rfl rfl).trans (ob_cg fun x1 => ?_)
  exact es_fin rfl rfl rfl
theorem sX6_firstSymbol_0 (B : Bool) (d : Nat) (hd : 4 ≤ d) (h : SG) (x0_1 : Int32) : mS B d 134 [.ref 93, .int x0_1] h = ob (rAt h 96 (((7 : Int32) * x0_1) + (2 : Int32))) (fun x1 => some (.inl (some (.int x1)), h)) := by
  obtain ⟨d, rfl⟩ : ∃ e, d = e + 4 := ⟨d - 4, by omega⟩
  show evS B (d + 4) 134 0 [(0, .ref 93), (1, .int x0_1)] [] h = _
  refine (es_st 7 (pc' := 10) (L' := [(0, .ref 93), (1, .int x0_1)]) (S' := [.int (((7 : Int32) * x0_1) + (2 : Int32)), .ref 96]) (h' := h) rfl).trans ?_
  refine (es_ob (o := rAt h 96 (((7 : Int32) * x0_1) + (2 : Int32))) (pc' := 13) (L' := [(0, .ref 93), (1, .int x0_1)]) (S' := fun z => [.int z]) (h' := fun z => h) rfl rfl rfl).trans (ob_cg fun x1 => ?_)
  exact es_fin rfl rfl rfl
theorem sX6_lastSymbolA_0 (B : Bool) (d : Nat) (hd : 1 ≤ d) (h : SG) (x0_1 : Int32) : mS B d 135 [.ref 41, .int x0_1] h = kI (mS B (d - 1) 130 [.ref 41] h) (fun x2 h1 => if x2 ≤ (x0_1 + (1 : Int32)) then some (.inl (some (.int ((Int32.ofNat (sW h1 42).length) / (8 : Int32)))), h1) else kI (mS B (d - 1) 134 [.ref 41, .int (x0_1 + (1 : Int32))] h1) (fun x4 h3 => some (.inl (some (.int x4)), h3))) := by
  obtain ⟨d, rfl⟩ : ∃ e, d = e + 1 := ⟨d - 1, by omega⟩
  show evS B (d + 1) 135 0 [(0, .ref 41), (1, .int x0_1)] [] h = _
  refine (es_st 4 (pc' := 4) (L' := [(0, .ref 41), (1, .int x0_1)]) (S' := [.ref 41, .int (x0_1 + (1 : Int32))]) (h' := h) rfl).trans ?_
  refine (es_cI (b := true) (k' := 130) (pc' := 7) (as := [.ref 41]) (S' := [.int (x0_1 + (1 : Int32))]) (L' := [(0, .ref 41), (1, .int x0_1)]) (h' := h) rfl rfl rfl rfl rfl).trans (kI_cg fun x2 h1 => ?_)
  refine (is_ge (t := 20) rfl rfl rfl).trans (if_cg ?_ ?_)
  · refine (es_st 5 (pc' := 30) (L' := [(0, .ref 41), (1, .int x0_1)]) (S' := [.int ((Int32.ofNat (sW h1 42).length) / (8 : Int32))]) (h' := h1) rfl).trans ?_
    exact es_fin rfl rfl rfl
  · refine (es_st 4 (pc' := 14) (L' := [(0, .ref 41), (1, .int x0_1)]) (S' := [.int (x0_1 + (1 : Int32)), .ref 41]) (h' := h1) rfl).trans ?_
    refine (es_cI (b := true) (k' := 134) (pc' := 17) (as := [.ref 41, .int (x0_1 + (1 : Int32))]) (S' := []) (L' := [(0, .ref 41), (1, .int x0_1)]) (h' := h1) rfl rfl rfl rfl rfl).trans (kI_cg fun x4 h3 => ?_)
    refine (es_st 1 (pc' := 30) (L' := [(0, .ref 41), (1, .int x0_1)]) (S' := [.int x4]) (h' := h3) rfl).trans ?_
    exact es_fin rfl rfl rfl
theorem sX6_lastSymbol_0 (B : Bool) (d : Nat) (hd : 1 ≤ d) (h : SG) (x0_1 : Int32) : mS B d 135 [.ref 93, .int x0_1] h = kI (mS B (d - 1) 130 [.ref 93] h) (fun x2 h1 => if x2 ≤ (x0_1 + (1 : Int32)) then some (.inl (some (.int ((Int32.ofNat (sW h1 94).length) / (8 : Int32)))), h1) else kI (mS B (d - 1) 134 [.ref 93, .int (x0_1 + (1 : Int32))] h1) (fun x4 h3 => some (.inl (some (.int x4)), h3))) := by
  obtain ⟨d, rfl⟩ : ∃ e, d = e + 1 := ⟨d - 1, by omega⟩
  show evS B (d + 1) 135 0 [(0, .ref 93), (1, .int x0_1)] [] h = _
  refine (es_st 4 (pc' := 4) (L' := [(0, .ref 93), (1, .int x0_1)]) (S' := [.ref 93, .int (x0_1 + (1 : Int32))]) (h' := h) rfl).trans ?_
  refine (es_cI (b := true) (k' := 130) (pc' := 7) (as := [.ref 93]) (S' := [.int (x0_1 + (1 : Int32))]) (L' := [(0, .ref 93), (1, .int x0_1)]) (h' := h) rfl rfl rfl rfl rfl).trans (kI_cg fun x2 h1 => ?_)
  refine (is_ge (t := 20) rfl rfl rfl).trans (if_cg ?_ ?_)
  · refine (es_st 5 (pc' := 30) (L' := [(0, .ref 93), (1, .int x0_1)]) (S' := [.int ((Int32.ofNat (sW h1 94).length) / (8 : Int32))]) (h' := h1) rfl).trans ?_
    exact es_fin rfl rfl rfl
  · refine (es_st 4 (pc' := 14) (L' := [(0, .ref 93), (1, .int x0_1)]) (S' := [.int (x0_1 + (1 : Int32)), .ref 93]) (h' := h1) rfl).trans ?_
    refine (es_cI (b := true) (k' := 134) (pc' := 17) (as := [.ref 93, .int (x0_1 + (1 : Int32))]) (S' := []) (L' := [(0, .ref 93), (1, .int x0_1)]) (h' := h1) rfl rfl rfl rfl rfl).trans (kI_cg fun x4 h3 => ?_)
    refine (es_st 1 (pc' := 30) (L' := [(0, .ref 93), (1, .int x0_1)]) (S' := [.int x4]) (h' := h3) rfl).trans ?_
    exact es_fin rfl rfl rfl
theorem sX6_symbolA_0 (B : Bool) (d : Nat) (hd : 4 ≤ d) (h : SG) (x0_1 : Int32) (x0_2 : Int32) : mS B d 136 [.ref 41, .int x0_1, .int x0_2] h = ob (rAt h 42 (((8 : Int32) * x0_1) + x0_2)) (fun x1 => some (.inl (some (.int x1)), h)) := by
  obtain ⟨d, rfl⟩ : ∃ e, d = e + 4 := ⟨d - 4, by omega⟩
  show evS B (d + 4) 136 0 [(0, .ref 41), (1, .int x0_1), (2, .int x0_2)] [] h = _
  refine (es_st 7 (pc' := 10) (L' := [(0, .ref 41), (1, .int x0_1), (2, .int x0_2)]) (S' := [.int (((8 : Int32) * x0_1) + x0_2), .ref 42]) (h' := h) rfl).trans ?_
  refine (es_ob (o := rAt h 42 (((8 : Int32) * x0_1) + x0_2)) (pc' := 13) (L' := [(0, .ref 41), (1, .int x0_1), (2, .int x0_2)]) (S' := fun z => [.int z]) (h' := fun z => h) rfl rfl rfl).trans (ob_cg fun x1 => ?_)
  exact es_fin rfl rfl rfl
theorem sX6_symbol_0 (B : Bool) (d : Nat) (hd : 4 ≤ d) (h : SG) (x0_1 : Int32) (x0_2 : Int32) : mS B d 136 [.ref 93, .int x0_1, .int x0_2] h = ob (rAt h 94 (((8 : Int32) * x0_1) + x0_2)) (fun x1 => some (.inl (some (.int x1)), h)) := by
  obtain ⟨d, rfl⟩ : ∃ e, d = e + 4 := ⟨d - 4, by omega⟩
  show evS B (d + 4) 136 0 [(0, .ref 93), (1, .int x0_1), (2, .int x0_2)] [] h = _
  refine (es_st 7 (pc' := 10) (L' := [(0, .ref 93), (1, .int x0_1), (2, .int x0_2)]) (S' := [.int (((8 : Int32) * x0_1) + x0_2), .ref 94]) (h' := h) rfl).trans ?_
  refine (es_ob (o := rAt h 94 (((8 : Int32) * x0_1) + x0_2)) (pc' := 13) (L' := [(0, .ref 93), (1, .int x0_1), (2, .int x0_2)]) (S' := fun z => [.int z]) (h' := fun z => h) rfl rfl rfl).trans (ob_cg fun x1 => ?_)
  exact es_fin rfl rfl rfl
theorem sX6_widthA_0 (B : Bool) (d : Nat) (hd : 1 ≤ d) (h : SG) (x0_1 : Int32) : mS B d 137 [.ref 41, .int x0_1] h = kI (mS B (d - 1) 136 [.ref 41, .int x0_1, .int (3 : Int32)] h) (fun x2 h1 => some (.inl (some (.int x2)), h1)) := by
  obtain ⟨d, rfl⟩ : ∃ e, d = e + 1 := ⟨d - 1, by omega⟩
  show evS B (d + 1) 137 0 [(0, .ref 41), (1, .int x0_1)] [] h = _
  refine (es_st 3 (pc' := 3) (L' := [(0, .ref 41), (1, .int x0_1)]) (S' := [.int (3 : Int32), .int x0_1, .ref 41]) (h' := h) rfl).trans ?_
  refine (es_cI (b := true) (k' := 136) (pc' := 6) (as := [.ref 41, .int x0_1, .int (3 : Int32)]) (S' := []) (L' := [(0, .ref 41), (1, .int x0_1)]) (h' := h) rfl rfl rfl rfl rfl).trans (kI_cg fun x2 h1 => ?_)
  exact es_fin rfl rfl rfl
theorem sX6_width_0 (B : Bool) (d : Nat) (hd : 1 ≤ d) (h : SG) (x0_1 : Int32) : mS B d 137 [.ref 93, .int x0_1] h = kI (mS B (d - 1) 136 [.ref 93, .int x0_1, .int (3 : Int32)] h) (fun x2 h1 => some (.inl (some (.int x2)), h1)) := by
  obtain ⟨d, rfl⟩ : ∃ e, d = e + 1 := ⟨d - 1, by omega⟩
  show evS B (d + 1) 137 0 [(0, .ref 93), (1, .int x0_1)] [] h = _
  refine (es_st 3 (pc' := 3) (L' := [(0, .ref 93), (1, .int x0_1)]) (S' := [.int (3 : Int32), .int x0_1, .ref 93]) (h' := h) rfl).trans ?_
  refine (es_cI (b := true) (k' := 136) (pc' := 6) (as := [.ref 93, .int x0_1, .int (3 : Int32)]) (S' := []) (L' := [(0, .ref 93), (1, .int x0_1)]) (h' := h) rfl rfl rfl rfl rfl).trans (kI_cg fun x2 h1 => ?_)
  exact es_fin rfl rfl rfl
theorem sX6_kindA_0 (B : Bool) (d : Nat) (hd : 1 ≤ d) (h : SG) (x0_1 : Int32) : mS B d 138 [.ref 41, .int x0_1] h = kI (mS B (d - 1) 136 [.ref 41, .int x0_1, .int (2 : Int32)] h) (fun x2 h1 => some (.inl (some (.int x2)), h1)) := by
  obtain ⟨d, rfl⟩ : ∃ e, d = e + 1 := ⟨d - 1, by omega⟩
  show evS B (d + 1) 138 0 [(0, .ref 41), (1, .int x0_1)] [] h = _
  refine (es_st 3 (pc' := 3) (L' := [(0, .ref 41), (1, .int x0_1)]) (S' := [.int (2 : Int32), .int x0_1, .ref 41]) (h' := h) rfl).trans ?_
  refine (es_cI (b := true) (k' := 136) (pc' := 6) (as := [.ref 41, .int x0_1, .int (2 : Int32)]) (S' := []) (L' := [(0, .ref 41), (1, .int x0_1)]) (h' := h) rfl rfl rfl rfl rfl).trans (kI_cg fun x2 h1 => ?_)
  exact es_fin rfl rfl rfl
theorem sX6_kind_0 (B : Bool) (d : Nat) (hd : 1 ≤ d) (h : SG) (x0_1 : Int32) : mS B d 138 [.ref 93, .int x0_1] h = kI (mS B (d - 1) 136 [.ref 93, .int x0_1, .int (2 : Int32)] h) (fun x2 h1 => some (.inl (some (.int x2)), h1)) := by
  obtain ⟨d, rfl⟩ : ∃ e, d = e + 1 := ⟨d - 1, by omega⟩
  show evS B (d + 1) 138 0 [(0, .ref 93), (1, .int x0_1)] [] h = _
  refine (es_st 3 (pc' := 3) (L' := [(0, .ref 93), (1, .int x0_1)]) (S' := [.int (2 : Int32), .int x0_1, .ref 93]) (h' := h) rfl).trans ?_
  refine (es_cI (b := true) (k' := 136) (pc' := 6) (as := [.ref 93, .int x0_1, .int (2 : Int32)]) (S' := []) (L' := [(0, .ref 93), (1, .int x0_1)]) (h' := h) rfl rfl rfl rfl rfl).trans (kI_cg fun x2 h1 => ?_)
  exact es_fin rfl rfl rfl
theorem sX6_isDrivenA_0 (B : Bool) (d : Nat) (hd : 1 ≤ d) (h : SG) (x0_1 : Int32) : mS B d 139 [.ref 41, .int x0_1] h = kI (mS B (d - 1) 138 [.ref 41, .int x0_1] h) (fun x2 h1 => if x2 = (1 : Int32) then some (.inl (some (.int (1 : Int32))), h1) else kI (mS B (d - 1) 138 [.ref 41, .int x0_1] h1) (fun x4 h3 => if x4 = (3 : Int32) then some (.inl (some (.int (1 : Int32))), h3) else some (.inl (some (.int (0 : Int32))), h3))) := by
  obtain ⟨d, rfl⟩ : ∃ e, d = e + 1 := ⟨d - 1, by omega⟩
  show evS B (d + 1) 139 0 [(0, .ref 41), (1, .int x0_1)] [] h = _
  refine (es_st 2 (pc' := 2) (L' := [(0, .ref 41), (1, .int x0_1)]) (S' := [.int x0_1, .ref 41]) (h' := h) rfl).trans ?_
  refine (es_cI (b := true) (k' := 138) (pc' := 5) (as := [.ref 41, .int x0_1]) (S' := []) (L' := [(0, .ref 41), (1, .int x0_1)]) (h' := h) rfl rfl rfl rfl rfl).trans (kI_cg fun x2 h1 => ?_)
  refine (es_st 1 (pc' := 6) (L' := [(0, .ref 41), (1, .int x0_1)]) (S' := [.int (1 : Int32), .int x2]) (h' := h1) rfl).trans ?_
  refine (is_eq (t := 18) rfl rfl rfl).trans (if_cg ?_ ?_)
  · refine (es_st 2 (pc' := 23) (L' := [(0, .ref 41), (1, .int x0_1)]) (S' := [.int (1 : Int32)]) (h' := h1) rfl).trans ?_
    exact es_fin rfl rfl rfl
  · refine (es_st 2 (pc' := 11) (L' := [(0, .ref 41), (1, .int x0_1)]) (S' := [.int x0_1, .ref 41]) (h' := h1) rfl).trans ?_
    refine (es_cI (b := true) (k' := 138) (pc' := 14) (as := [.ref 41, .int x0_1]) (S' := []) (L' := [(0, .ref 41), (1, .int x0_1)]) (h' := h1) rfl rfl rfl rfl rfl).trans (kI_cg fun x4 h3 => ?_)
    refine (es_st 1 (pc' := 15) (L' := [(0, .ref 41), (1, .int x0_1)]) (S' := [.int (3 : Int32), .int x4]) (h' := h3) rfl).trans ?_
    refine (is_ne (t := 22) rfl rfl rfl).trans (if_cg ?_ ?_)
    · refine (es_st 2 (pc' := 23) (L' := [(0, .ref 41), (1, .int x0_1)]) (S' := [.int (1 : Int32)]) (h' := h3) rfl).trans ?_
      exact es_fin rfl rfl rfl
    · refine (es_st 1 (pc' := 23) (L' := [(0, .ref 41), (1, .int x0_1)]) (S' := [.int (0 : Int32)]) (h' := h3) rfl).trans ?_
      exact es_fin rfl rfl rfl
theorem sX6_isDriven_0 (B : Bool) (d : Nat) (hd : 1 ≤ d) (h : SG) (x0_1 : Int32) : mS B d 139 [.ref 93, .int x0_1] h = kI (mS B (d - 1) 138 [.ref 93, .int x0_1] h) (fun x2 h1 => if x2 = (1 : Int32) then some (.inl (some (.int (1 : Int32))), h1) else kI (mS B (d - 1) 138 [.ref 93, .int x0_1] h1) (fun x4 h3 => if x4 = (3 : Int32) then some (.inl (some (.int (1 : Int32))), h3) else some (.inl (some (.int (0 : Int32))), h3))) := by
  obtain ⟨d, rfl⟩ : ∃ e, d = e + 1 := ⟨d - 1, by omega⟩
  show evS B (d + 1) 139 0 [(0, .ref 93), (1, .int x0_1)] [] h = _
  refine (es_st 2 (pc' := 2) (L' := [(0, .ref 93), (1, .int x0_1)]) (S' := [.int x0_1, .ref 93]) (h' := h) rfl).trans ?_
  refine (es_cI (b := true) (k' := 138) (pc' := 5) (as := [.ref 93, .int x0_1]) (S' := []) (L' := [(0, .ref 93), (1, .int x0_1)]) (h' := h) rfl rfl rfl rfl rfl).trans (kI_cg fun x2 h1 => ?_)
  refine (es_st 1 (pc' := 6) (L' := [(0, .ref 93), (1, .int x0_1)]) (S' := [.int (1 : Int32), .int x2]) (h' := h1) rfl).trans ?_
  refine (is_eq (t := 18) rfl rfl rfl).trans (if_cg ?_ ?_)
  · refine (es_st 2 (pc' := 23) (L' := [(0, .ref 93), (1, .int x0_1)]) (S' := [.int (1 : Int32)]) (h' := h1) rfl).trans ?_
    exact es_fin rfl rfl rfl
  · refine (es_st 2 (pc' := 11) (L' := [(0, .ref 93), (1, .int x0_1)]) (S' := [.int x0_1, .ref 93]) (h' := h1) rfl).trans ?_
    refine (es_cI (b := true) (k' := 138) (pc' := 14) (as := [.ref 93, .int x0_1]) (S' := []) (L' := [(0, .ref 93), (1, .int x0_1)]) (h' := h1) rfl rfl rfl rfl rfl).trans (kI_cg fun x4 h3 => ?_)
    refine (es_st 1 (pc' := 15) (L' := [(0, .ref 93), (1, .int x0_1)]) (S' := [.int (3 : Int32), .int x4]) (h' := h3) rfl).trans ?_
    refine (is_ne (t := 22) rfl rfl rfl).trans (if_cg ?_ ?_)
    · refine (es_st 2 (pc' := 23) (L' := [(0, .ref 93), (1, .int x0_1)]) (S' := [.int (1 : Int32)]) (h' := h3) rfl).trans ?_
      exact es_fin rfl rfl rfl
    · refine (es_st 1 (pc' := 23) (L' := [(0, .ref 93), (1, .int x0_1)]) (S' := [.int (0 : Int32)]) (h' := h3) rfl).trans ?_
      exact es_fin rfl rfl rfl
theorem sX6_isRegisterA_0 (B : Bool) (d : Nat) (hd : 1 ≤ d) (h : SG) (x0_1 : Int32) : mS B d 140 [.ref 41, .int x0_1] h = kI (mS B (d - 1) 138 [.ref 41, .int x0_1] h) (fun x2 h1 => if x2 = (4 : Int32) then some (.inl (some (.int (1 : Int32))), h1) else kI (mS B (d - 1) 138 [.ref 41, .int x0_1] h1) (fun x4 h3 => if x4 = (2 : Int32) then some (.inl (some (.int (1 : Int32))), h3) else some (.inl (some (.int (0 : Int32))), h3))) := by
  obtain ⟨d, rfl⟩ : ∃ e, d = e + 1 := ⟨d - 1, by omega⟩
  show evS B (d + 1) 140 0 [(0, .ref 41), (1, .int x0_1)] [] h = _
  refine (es_st 2 (pc' := 2) (L' := [(0, .ref 41), (1, .int x0_1)]) (S' := [.int x0_1, .ref 41]) (h' := h) rfl).trans ?_
  refine (es_cI (b := true) (k' := 138) (pc' := 5) (as := [.ref 41, .int x0_1]) (S' := []) (L' := [(0, .ref 41), (1, .int x0_1)]) (h' := h) rfl rfl rfl rfl rfl).trans (kI_cg fun x2 h1 => ?_)
  refine (es_st 1 (pc' := 6) (L' := [(0, .ref 41), (1, .int x0_1)]) (S' := [.int (4 : Int32), .int x2]) (h' := h1) rfl).trans ?_
  refine (is_eq (t := 18) rfl rfl rfl).trans (if_cg ?_ ?_)
  · refine (es_st 2 (pc' := 23) (L' := [(0, .ref 41), (1, .int x0_1)]) (S' := [.int (1 : Int32)]) (h' := h1) rfl).trans ?_
    exact es_fin rfl rfl rfl
  · refine (es_st 2 (pc' := 11) (L' := [(0, .ref 41), (1, .int x0_1)]) (S' := [.int x0_1, .ref 41]) (h' := h1) rfl).trans ?_
    refine (es_cI (b := true) (k' := 138) (pc' := 14) (as := [.ref 41, .int x0_1]) (S' := []) (L' := [(0, .ref 41), (1, .int x0_1)]) (h' := h1) rfl rfl rfl rfl rfl).trans (kI_cg fun x4 h3 => ?_)
    refine (es_st 1 (pc' := 15) (L' := [(0, .ref 41), (1, .int x0_1)]) (S' := [.int (2 : Int32), .int x4]) (h' := h3) rfl).trans ?_
    refine (is_ne (t := 22) rfl rfl rfl).trans (if_cg ?_ ?_)
    · refine (es_st 2 (pc' := 23) (L' := [(0, .ref 41), (1, .int x0_1)]) (S' := [.int (1 : Int32)]) (h' := h3) rfl).trans ?_
      exact es_fin rfl rfl rfl
    · refine (es_st 1 (pc' := 23) (L' := [(0, .ref 41), (1, .int x0_1)]) (S' := [.int (0 : Int32)]) (h' := h3) rfl).trans ?_
      exact es_fin rfl rfl rfl
theorem sX6_isRegister_0 (B : Bool) (d : Nat) (hd : 1 ≤ d) (h : SG) (x0_1 : Int32) : mS B d 140 [.ref 93, .int x0_1] h = kI (mS B (d - 1) 138 [.ref 93, .int x0_1] h) (fun x2 h1 => if x2 = (4 : Int32) then some (.inl (some (.int (1 : Int32))), h1) else kI (mS B (d - 1) 138 [.ref 93, .int x0_1] h1) (fun x4 h3 => if x4 = (2 : Int32) then some (.inl (some (.int (1 : Int32))), h3) else some (.inl (some (.int (0 : Int32))), h3))) := by
  obtain ⟨d, rfl⟩ : ∃ e, d = e + 1 := ⟨d - 1, by omega⟩
  show evS B (d + 1) 140 0 [(0, .ref 93), (1, .int x0_1)] [] h = _
  refine (es_st 2 (pc' := 2) (L' := [(0, .ref 93), (1, .int x0_1)]) (S' := [.int x0_1, .ref 93]) (h' := h) rfl).trans ?_
  refine (es_cI (b := true) (k' := 138) (pc' := 5) (as := [.ref 93, .int x0_1]) (S' := []) (L' := [(0, .ref 93), (1, .int x0_1)]) (h' := h) rfl rfl rfl rfl rfl).trans (kI_cg fun x2 h1 => ?_)
  refine (es_st 1 (pc' := 6) (L' := [(0, .ref 93), (1, .int x0_1)]) (S' := [.int (4 : Int32), .int x2]) (h' := h1) rfl).trans ?_
  refine (is_eq (t := 18) rfl rfl rfl).trans (if_cg ?_ ?_)
  · refine (es_st 2 (pc' := 23) (L' := [(0, .ref 93), (1, .int x0_1)]) (S' := [.int (1 : Int32)]) (h' := h1) rfl).trans ?_
    exact es_fin rfl rfl rfl
  · refine (es_st 2 (pc' := 11) (L' := [(0, .ref 93), (1, .int x0_1)]) (S' := [.int x0_1, .ref 93]) (h' := h1) rfl).trans ?_
    refine (es_cI (b := true) (k' := 138) (pc' := 14) (as := [.ref 93, .int x0_1]) (S' := []) (L' := [(0, .ref 93), (1, .int x0_1)]) (h' := h1) rfl rfl rfl rfl rfl).trans (kI_cg fun x4 h3 => ?_)
    refine (es_st 1 (pc' := 15) (L' := [(0, .ref 93), (1, .int x0_1)]) (S' := [.int (2 : Int32), .int x4]) (h' := h3) rfl).trans ?_
    refine (is_ne (t := 22) rfl rfl rfl).trans (if_cg ?_ ?_)
    · refine (es_st 2 (pc' := 23) (L' := [(0, .ref 93), (1, .int x0_1)]) (S' := [.int (1 : Int32)]) (h' := h3) rfl).trans ?_
      exact es_fin rfl rfl rfl
    · refine (es_st 1 (pc' := 23) (L' := [(0, .ref 93), (1, .int x0_1)]) (S' := [.int (0 : Int32)]) (h' := h3) rfl).trans ?_
      exact es_fin rfl rfl rfl
theorem sX6_portsA_0 (B : Bool) (d : Nat) (hd : 4 ≤ d) (h : SG) (x0_1 : Int32) : mS B d 141 [.ref 41, .int x0_1] h = ob (rAt h 44 (((7 : Int32) * x0_1) + (4 : Int32))) (fun x1 => some (.inl (some (.int x1)), h)) := by
  obtain ⟨d, rfl⟩ : ∃ e, d = e + 4 := ⟨d - 4, by omega⟩
  show evS B (d + 4) 141 0 [(0, .ref 41), (1, .int x0_1)] [] h = _
  refine (es_st 7 (pc' := 10) (L' := [(0, .ref 41), (1, .int x0_1)]) (S' := [.int (((7 : Int32) * x0_1) + (4 : Int32)), .ref 44]) (h' := h) rfl).trans ?_
  refine (es_ob (o := rAt h 44 (((7 : Int32) * x0_1) + (4 : Int32))) (pc' := 13) (L' := [(0, .ref 41), (1, .int x0_1)]) (S' := fun z => [.int z]) (h' := fun z => h) rfl rfl rfl).trans (ob_cg fun x1 => ?_)
  exact es_fin rfl rfl rfl
theorem sX6_ports_0 (B : Bool) (d : Nat) (hd : 4 ≤ d) (h : SG) (x0_1 : Int32) : mS B d 141 [.ref 93, .int x0_1] h = ob (rAt h 96 (((7 : Int32) * x0_1) + (4 : Int32))) (fun x1 => some (.inl (some (.int x1)), h)) := by
  obtain ⟨d, rfl⟩ : ∃ e, d = e + 4 := ⟨d - 4, by omega⟩
  show evS B (d + 4) 141 0 [(0, .ref 93), (1, .int x0_1)] [] h = _
  refine (es_st 7 (pc' := 10) (L' := [(0, .ref 93), (1, .int x0_1)]) (S' := [.int (((7 : Int32) * x0_1) + (4 : Int32)), .ref 96]) (h' := h) rfl).trans ?_
  refine (es_ob (o := rAt h 96 (((7 : Int32) * x0_1) + (4 : Int32))) (pc' := 13) (L' := [(0, .ref 93), (1, .int x0_1)]) (S' := fun z => [.int z]) (h' := fun z => h) rfl rfl rfl).trans (ob_cg fun x1 => ?_)
  exact es_fin rfl rfl rfl
theorem sX6_firstItemA_0 (B : Bool) (d : Nat) (hd : 4 ≤ d) (h : SG) (x0_1 : Int32) : mS B d 142 [.ref 41, .int x0_1] h = ob (rAt h 44 (((7 : Int32) * x0_1) + (3 : Int32))) (fun x1 => some (.inl (some (.int x1)), h)) := by
  obtain ⟨d, rfl⟩ : ∃ e, d = e + 4 := ⟨d - 4, by omega⟩
  show evS B (d + 4) 142 0 [(0, .ref 41), (1, .int x0_1)] [] h = _
  refine (es_st 7 (pc' := 10) (L' := [(0, .ref 41), (1, .int x0_1)]) (S' := [.int (((7 : Int32) * x0_1) + (3 : Int32)), .ref 44]) (h' := h) rfl).trans ?_
  refine (es_ob (o := rAt h 44 (((7 : Int32) * x0_1) + (3 : Int32))) (pc' := 13) (L' := [(0, .ref 41), (1, .int x0_1)]) (S' := fun z => [.int z]) (h' := fun z => h) rfl rfl rfl).trans (ob_cg fun x1 => ?_)
  exact es_fin rfl rfl rfl
theorem sX6_firstItem_0 (B : Bool) (d : Nat) (hd : 4 ≤ d) (h : SG) (x0_1 : Int32) : mS B d 142 [.ref 93, .int x0_1] h = ob (rAt h 96 (((7 : Int32) * x0_1) + (3 : Int32))) (fun x1 => some (.inl (some (.int x1)), h)) := by
  obtain ⟨d, rfl⟩ : ∃ e, d = e + 4 := ⟨d - 4, by omega⟩
  show evS B (d + 4) 142 0 [(0, .ref 93), (1, .int x0_1)] [] h = _
  refine (es_st 7 (pc' := 10) (L' := [(0, .ref 93), (1, .int x0_1)]) (S' := [.int (((7 : Int32) * x0_1) + (3 : Int32)), .ref 96]) (h' := h) rfl).trans ?_
  refine (es_ob (o := rAt h 96 (((7 : Int32) * x0_1) + (3 : Int32))) (pc' := 13) (L' := [(0, .ref 93), (1, .int x0_1)]) (S' := fun z => [.int z]) (h' := fun z => h) rfl rfl rfl).trans (ob_cg fun x1 => ?_)
  exact es_fin rfl rfl rfl
theorem sX6_lastItemA_0 (B : Bool) (d : Nat) (hd : 4 ≤ d) (h : SG) (x0_1 : Int32) : mS B d 143 [.ref 41, .int x0_1] h = ob (rAt h 44 (((7 : Int32) * x0_1) + (5 : Int32))) (fun x1 => some (.inl (some (.int x1)), h)) := by
  obtain ⟨d, rfl⟩ : ∃ e, d = e + 4 := ⟨d - 4, by omega⟩
  show evS B (d + 4) 143 0 [(0, .ref 41), (1, .int x0_1)] [] h = _
  refine (es_st 7 (pc' := 10) (L' := [(0, .ref 41), (1, .int x0_1)]) (S' := [.int (((7 : Int32) * x0_1) + (5 : Int32)), .ref 44]) (h' := h) rfl).trans ?_
  refine (es_ob (o := rAt h 44 (((7 : Int32) * x0_1) + (5 : Int32))) (pc' := 13) (L' := [(0, .ref 41), (1, .int x0_1)]) (S' := fun z => [.int z]) (h' := fun z => h) rfl rfl rfl).trans (ob_cg fun x1 => ?_)
  exact es_fin rfl rfl rfl
theorem sX6_lastItem_0 (B : Bool) (d : Nat) (hd : 4 ≤ d) (h : SG) (x0_1 : Int32) : mS B d 143 [.ref 93, .int x0_1] h = ob (rAt h 96 (((7 : Int32) * x0_1) + (5 : Int32))) (fun x1 => some (.inl (some (.int x1)), h)) := by
  obtain ⟨d, rfl⟩ : ∃ e, d = e + 4 := ⟨d - 4, by omega⟩
  show evS B (d + 4) 143 0 [(0, .ref 93), (1, .int x0_1)] [] h = _
  refine (es_st 7 (pc' := 10) (L' := [(0, .ref 93), (1, .int x0_1)]) (S' := [.int (((7 : Int32) * x0_1) + (5 : Int32)), .ref 96]) (h' := h) rfl).trans ?_
  refine (es_ob (o := rAt h 96 (((7 : Int32) * x0_1) + (5 : Int32))) (pc' := 13) (L' := [(0, .ref 93), (1, .int x0_1)]) (S' := fun z => [.int z]) (h' := fun z => h) rfl rfl rfl).trans (ob_cg fun x1 => ?_)
  exact es_fin rfl rfl rfl
theorem sX7_clear_0 (B : Bool) (d : Nat) (h : SG) : mS B d 145 [.ref 107] h = evS B d 145 2 [(0, .ref 107), (1, .int (0 : Int32))] [] h := by
  show evS B d 145 0 [(0, .ref 107)] [] h = _
  refine (es_st 2 (pc' := 2) (L' := [(1, .int (0 : Int32)), (0, .ref 107)]) (S' := []) (h' := h) rfl).trans ?_
  exact es_cut rfl rfl rfl
theorem sX7_clear_2 (B : Bool) (d : Nat) (h : SG) (x0_1 : Int32) : evS B d 145 2 [(0, .ref 107), (1, .int x0_1)] [] h = if (32768 : Int32) ≤ x0_1 then some (.inl none, (uF h 107 4 (1 : Int32))) else if ixN x0_1 32768 = true then evS B d 145 2 [(0, .ref 107), (1, .int (x0_1 + (1 : Int32)))] [] (uF h 111 x0_1.toNatClampNeg (0 : Int32)) else none := by
  refine (es_st 2 (pc' := 5) (L' := [(0, .ref 107), (1, .int x0_1)]) (S' := [.int (32768 : Int32), .int x0_1]) (h' := h) rfl).trans ?_
  refine (is_ge (t := 21) rfl rfl rfl).trans (if_cg ?_ ?_)
  · refine (es_st 3 (pc' := 26) (L' := [(0, .ref 107), (1, .int x0_1)]) (S' := []) (h' := (uF h 107 4 (1 : Int32))) rfl).trans ?_
    exact es_fin rfl rfl rfl
  · refine (es_st 4 (pc' := 14) (L' := [(0, .ref 107), (1, .int x0_1)]) (S' := [.int (0 : Int32), .int x0_1, .ref 111]) (h' := h) rfl).trans ?_
    refine (es_ix (c := ixN x0_1 32768 = true) (x := (uF h 111 x0_1.toNatClampNeg (0 : Int32))) (pc' := 15) (L' := [(0, .ref 107), (1, .int x0_1)]) (S' := fun z => []) (h' := fun z => z) rfl rfl rfl).trans (if_cgn ?_)
    refine (es_st 2 (pc' := 2) (L' := [(1, .int (x0_1 + (1 : Int32))), (0, .ref 107)]) (S' := []) (h' := (uF h 111 x0_1.toNatClampNeg (0 : Int32))) rfl).trans ?_
    exact es_cut rfl rfl rfl
theorem sX7_free_0 (B : Bool) (d : Nat) (h : SG) : mS B d 146 [.ref 107] h = if ixN (sF h 107 4) 24000 = true then some (.inl (some (.int ((2 : Int32) * (sF (uF h 108 (sF h 107 4).toNatClampNeg (-1 : Int32)) 107 4)))), (uF (uF h 108 (sF h 107 4).toNatClampNeg (-1 : Int32)) 107 4 ((sF (uF h 108 (sF h 107 4).toNatClampNeg (-1 : Int32)) 107 4) + (1 : Int32)))) else none := by
  show evS B d 146 0 [(0, .ref 107)] [] h = _
  refine (es_st 5 (pc' := 9) (L' := [(0, .ref 107)]) (S' := [.int (-1 : Int32), .int (sF h 107 4), .ref 108]) (h' := h) rfl).trans ?_
  refine (es_ix (c := ixN (sF h 107 4) 24000 = true) (x := (uF h 108 (sF h 107 4).toNatClampNeg (-1 : Int32))) (pc' := 10) (L' := [(0, .ref 107)]) (S' := fun z => []) (h' := fun z => z) rfl rfl rfl).trans (if_cgn ?_)
  refine (es_st 9 (pc' := 23) (L' := [(0, .ref 107)]) (S' := [.int ((2 : Int32) * (sF (uF h 108 (sF h 107 4).toNatClampNeg (-1 : Int32)) 107 4))]) (h' := (uF (uF h 108 (sF h 107 4).toNatClampNeg (-1 : Int32)) 107 4 ((sF (uF h 108 (sF h 107 4).toNatClampNeg (-1 : Int32)) 107 4) + (1 : Int32)))) rfl).trans ?_
  exact es_fin rfl rfl rfl
theorem sX7_mux_0 (B : Bool) (d : Nat) (hd : 1 ≤ d) (h : SG) (x0_1 : Int32) (x0_2 : Int32) (x0_3 : Int32) : mS B d 147 [.ref 107, .int x0_1, .int x0_2, .int x0_3] h = kI (mS B (d - 1) 148 [.ref 107, .int x0_1, .int x0_2] h) (fun x2 h1 => kI (mS B (d - 1) 148 [.ref 107, .int (x0_1 ^^^ (1 : Int32)), .int x0_3] h1) (fun x4 h3 => kI (mS B (d - 1) 150 [.ref 107, .int x2, .int x4] h3) (fun x6 h5 => some (.inl (some (.int x6)), h5)))) := by
  obtain ⟨d, rfl⟩ : ∃ e, d = e + 1 := ⟨d - 1, by omega⟩
  show evS B (d + 1) 147 0 [(0, .ref 107), (1, .int x0_1), (2, .int x0_2), (3, .int x0_3)] [] h = _
  refine (es_st 4 (pc' := 4) (L' := [(0, .ref 107), (1, .int x0_1), (2, .int x0_2), (3, .int x0_3)]) (S' := [.int x0_2, .int x0_1, .ref 107, .ref 107]) (h' := h) rfl).trans ?_
  refine (es_cI (b := true) (k' := 148) (pc' := 7) (as := [.ref 107, .int x0_1, .int x0_2]) (S' := [.ref 107]) (L' := [(0, .ref 107), (1, .int x0_1), (2, .int x0_2), (3, .int x0_3)]) (h' := h) rfl rfl rfl rfl rfl).trans (kI_cg fun x2 h1 => ?_)
  refine (es_st 5 (pc' := 12) (L' := [(0, .ref 107), (1, .int x0_1), (2, .int x0_2), (3, .int x0_3)]) (S' := [.int x0_3, .int (x0_1 ^^^ (1 : Int32)), .ref 107, .int x2, .ref 107]) (h' := h1) rfl).trans ?_
  refine (es_cI (b := true) (k' := 148) (pc' := 15) (as := [.ref 107, .int (x0_1 ^^^ (1 : Int32)), .int x0_3]) (S' := [.int x2, .ref 107]) (L' := [(0, .ref 107), (1, .int x0_1), (2, .int x0_2), (3, .int x0_3)]) (h' := h1) rfl rfl rfl rfl rfl).trans (kI_cg fun x4 h3 => ?_)
  refine (es_cI (b := true) (k' := 150) (pc' := 18) (as := [.ref 107, .int x2, .int x4]) (S' := []) (L' := [(0, .ref 107), (1, .int x0_1), (2, .int x0_2), (3, .int x0_3)]) (h' := h3) rfl rfl rfl rfl rfl).trans (kI_cg fun x6 h5 => ?_)
  exact es_fin rfl rfl rfl
theorem sX7_and_0 (B : Bool) (d : Nat) (hd : 1 ≤ d) (h : SG) (x0_1 : Int32) (x0_2 : Int32) : mS B d 148 [.ref 107, .int x0_1, .int x0_2] h = if x0_1 ≤ x0_2 then if x0_1 = 0 then some (.inl (some (.int (0 : Int32))), h) else if x0_1 = (x0_2 ^^^ (1 : Int32)) then some (.inl (some (.int (0 : Int32))), h) else if x0_1 = (1 : Int32) then some (.inl (some (.int x0_2)), h) else if x0_1 = x0_2 then some (.inl (some (.int x0_2)), h) else kI (mS B (d - 1) 149 [.int x0_1, .int x0_2] h) (fun x2 h1 => if ixN x2 32768 = true then evS B d 148 51 [(0, .ref 107), (1, .int x0_1), (2, .int x0_2), (3, .int x2), (4, .int (sF h1 111 x2.toNatClampNeg))] [] h1 else none) else kI (mS B (d - 1) 148 [.ref 107, .int x0_2, .int x0_1] h) (fun x4 h3 => some (.inl (some (.int x4)), h3)) := by
  obtain ⟨d, rfl⟩ : ∃ e, d = e + 1 := ⟨d - 1, by omega⟩
  show evS B (d + 1) 148 0 [(0, .ref 107), (1, .int x0_1), (2, .int x0_2)] [] h = _
  refine (es_st 2 (pc' := 2) (L' := [(0, .ref 107), (1, .int x0_1), (2, .int x0_2)]) (S' := [.int x0_2, .int x0_1]) (h' := h) rfl).trans ?_
  refine (is_le (t := 12) rfl rfl rfl).trans (if_cg ?_ ?_)
  · refine (es_st 1 (pc' := 13) (L' := [(0, .ref 107), (1, .int x0_1), (2, .int x0_2)]) (S' := [.int x0_1]) (h' := h) rfl).trans ?_
    refine (zs_eq (t := 23) rfl rfl rfl).trans (if_cg ?_ ?_)
    · refine (es_st 1 (pc' := 24) (L' := [(0, .ref 107), (1, .int x0_1), (2, .int x0_2)]) (S' := [.int (0 : Int32)]) (h' := h) rfl).trans ?_
      exact es_fin rfl rfl rfl
    · refine (es_st 4 (pc' := 20) (L' := [(0, .ref 107), (1, .int x0_1), (2, .int x0_2)]) (S' := [.int (x0_2 ^^^ (1 : Int32)), .int x0_1]) (h' := h) rfl).trans ?_
      refine (is_ne (t := 25) rfl rfl rfl).trans (if_cg ?_ ?_)
      · refine (es_st 1 (pc' := 24) (L' := [(0, .ref 107), (1, .int x0_1), (2, .int x0_2)]) (S' := [.int (0 : Int32)]) (h' := h) rfl).trans ?_
        exact es_fin rfl rfl rfl
      · refine (es_st 2 (pc' := 27) (L' := [(0, .ref 107), (1, .int x0_1), (2, .int x0_2)]) (S' := [.int (1 : Int32), .int x0_1]) (h' := h) rfl).trans ?_
        refine (is_eq (t := 35) rfl rfl rfl).trans (if_cg ?_ ?_)
        · refine (es_st 1 (pc' := 36) (L' := [(0, .ref 107), (1, .int x0_1), (2, .int x0_2)]) (S' := [.int x0_2]) (h' := h) rfl).trans ?_
          exact es_fin rfl rfl rfl
        · refine (es_st 2 (pc' := 32) (L' := [(0, .ref 107), (1, .int x0_1), (2, .int x0_2)]) (S' := [.int x0_2, .int x0_1]) (h' := h) rfl).trans ?_
          refine (is_ne (t := 37) rfl rfl rfl).trans (if_cg ?_ ?_)
          · refine (es_st 1 (pc' := 36) (L' := [(0, .ref 107), (1, .int x0_1), (2, .int x0_2)]) (S' := [.int x0_2]) (h' := h) rfl).trans ?_
            exact es_fin rfl rfl rfl
          · refine (es_st 2 (pc' := 39) (L' := [(0, .ref 107), (1, .int x0_1), (2, .int x0_2)]) (S' := [.int x0_2, .int x0_1]) (h' := h) rfl).trans ?_
            refine (es_cI (b := true) (k' := 149) (pc' := 42) (as := [.int x0_1, .int x0_2]) (S' := []) (L' := [(0, .ref 107), (1, .int x0_1), (2, .int x0_2)]) (h' := h) rfl rfl rfl rfl rfl).trans (kI_cg fun x2 h1 => ?_)
            refine (es_st 4 (pc' := 48) (L' := [(3, .int x2), (0, .ref 107), (1, .int x0_1), (2, .int x0_2)]) (S' := [.int x2, .ref 111]) (h' := h1) rfl).trans ?_
            refine (es_ix (c := ixN x2 32768 = true) (x := (sF h1 111 x2.toNatClampNeg)) (pc' := 49) (L' := [(3, .int x2), (0, .ref 107), (1, .int x0_1), (2, .int x0_2)]) (S' := fun z => [.int z]) (h' := fun z => h1) rfl rfl rfl).trans (if_cgn ?_)
            refine (es_st 1 (pc' := 51) (L' := [(4, .int (sF h1 111 x2.toNatClampNeg)), (3, .int x2), (0, .ref 107), (1, .int x0_1), (2, .int x0_2)]) (S' := []) (h' := h1) rfl).trans ?_
            exact es_cut rfl rfl rfl
  · refine (es_st 3 (pc' := 8) (L' := [(0, .ref 107), (1, .int x0_1), (2, .int x0_2)]) (S' := [.int x0_1, .int x0_2, .ref 107]) (h' := h) rfl).trans ?_
    refine (es_cI (b := true) (k' := 148) (pc' := 11) (as := [.ref 107, .int x0_2, .int x0_1]) (S' := []) (L' := [(0, .ref 107), (1, .int x0_1), (2, .int x0_2)]) (h' := h) rfl rfl rfl rfl rfl).trans (kI_cg fun x4 h3 => ?_)
    exact es_fin rfl rfl rfl
theorem sX7_and_51 (B : Bool) (d : Nat) (hd : 1 ≤ d) (h : SG) (x0_1 : Int32) (x0_2 : Int32) (x0_3 : Int32) (x0_4 : Int32) : evS B d 148 51 [(0, .ref 107), (1, .int x0_1), (2, .int x0_2), (3, .int x0_3), (4, .int x0_4)] [] h = if x0_4 = 0 then if ixN (sF h 107 4) 24000 = true then if ixN (sF (uF h 108 (sF h 107 4).toNatClampNeg x0_1) 107 4) 24000 = true then if ixN x0_3 32768 = true then if ixN (sF (uF (uF h 108 (sF h 107 4).toNatClampNeg x0_1) 109 (sF (uF h 108 (sF h 107 4).toNatClampNeg x0_1) 107 4).toNatClampNeg x0_2) 107 4) 24000 = true then if ixN x0_3 32768 = true then some (.inl (some (.int ((2 : Int32) * (sF (uF (uF (uF (uF h 108 (sF h 107 4).toNatClampNeg x0_1) 109 (sF (uF h 108 (sF h 107 4).toNatClampNeg x0_1) 107 4).toNatClampNeg x0_2) 110 (sF (uF (uF h 108 (sF h 107 4).toNatClampNeg x0_1) 109 (sF (uF h 108 (sF h 107 4).toNatClampNeg x0_1) 107 4).toNatClampNeg x0_2) 107 4).toNatClampNeg (sF (uF (uF h 108 (sF h 107 4).toNatClampNeg x0_1) 109 (sF (uF h 108 (sF h 107 4).toNatClampNeg x0_1) 107 4).toNatClampNeg x0_2) 111 x0_3.toNatClampNeg)) 111 x0_3.toNatClampNeg (sF (uF (uF (uF h 108 (sF h 107 4).toNatClampNeg x0_1) 109 (sF (uF h 108 (sF h 107 4).toNatClampNeg x0_1) 107 4).toNatClampNeg x0_2) 110 (sF (uF (uF h 108 (sF h 107 4).toNatClampNeg x0_1) 109 (sF (uF h 108 (sF h 107 4).toNatClampNeg x0_1) 107 4).toNatClampNeg x0_2) 107 4).toNatClampNeg (sF (uF (uF h 108 (sF h 107 4).toNatClampNeg x0_1) 109 (sF (uF h 108 (sF h 107 4).toNatClampNeg x0_1) 107 4).toNatClampNeg x0_2) 111 x0_3.toNatClampNeg)) 107 4)) 107 4)))), (uF (uF (uF (uF (uF h 108 (sF h 107 4).toNatClampNeg x0_1) 109 (sF (uF h 108 (sF h 107 4).toNatClampNeg x0_1) 107 4).toNatClampNeg x0_2) 110 (sF (uF (uF h 108 (sF h 107 4).toNatClampNeg x0_1) 109 (sF (uF h 108 (sF h 107 4).toNatClampNeg x0_1) 107 4).toNatClampNeg x0_2) 107 4).toNatClampNeg (sF (uF (uF h 108 (sF h 107 4).toNatClampNeg x0_1) 109 (sF (uF h 108 (sF h 107 4).toNatClampNeg x0_1) 107 4).toNatClampNeg x0_2) 111 x0_3.toNatClampNeg)) 111 x0_3.toNatClampNeg (sF (uF (uF (uF h 108 (sF h 107 4).toNatClampNeg x0_1) 109 (sF (uF h 108 (sF h 107 4).toNatClampNeg x0_1) 107 4).toNatClampNeg x0_2) 110 (sF (uF (uF h 108 (sF h 107 4).toNatClampNeg x0_1) 109 (sF (uF h 108 (sF h 107 4).toNatClampNeg x0_1) 107 4).toNatClampNeg x0_2) 107 4).toNatClampNeg (sF (uF (uF h 108 (sF h 107 4).toNatClampNeg x0_1) 109 (sF (uF h 108 (sF h 107 4).toNatClampNeg x0_1) 107 4).toNatClampNeg x0_2) 111 x0_3.toNatClampNeg)) 107 4)) 107 4 ((sF (uF (uF (uF (uF h 108 (sF h 107 4).toNatClampNeg x0_1) 109 (sF (uF h 108 (sF h 107 4).toNatClampNeg x0_1) 107 4).toNatClampNeg x0_2) 110 (sF (uF (uF h 108 (sF h 107 4).toNatClampNeg x0_1) 109 (sF (uF h 108 (sF h 107 4).toNatClampNeg x0_1) 107 4).toNatClampNeg x0_2) 107 4).toNatClampNeg (sF (uF (uF h 108 (sF h 107 4).toNatClampNeg x0_1) 109 (sF (uF h 108 (sF h 107 4).toNatClampNeg x0_1) 107 4).toNatClampNeg x0_2) 111 x0_3.toNatClampNeg)) 111 x0_3.toNatClampNeg (sF (uF (uF (uF h 108 (sF h 107 4).toNatClampNeg x0_1) 109 (sF (uF h 108 (sF h 107 4).toNatClampNeg x0_1) 107 4).toNatClampNeg x0_2) 110 (sF (uF (uF h 108 (sF h 107 4).toNatClampNeg x0_1) 109 (sF (uF h 108 (sF h 107 4).toNatClampNeg x0_1) 107 4).toNatClampNeg x0_2) 107 4).toNatClampNeg (sF (uF (uF h 108 (sF h 107 4).toNatClampNeg x0_1) 109 (sF (uF h 108 (sF h 107 4).toNatClampNeg x0_1) 107 4).toNatClampNeg x0_2) 111 x0_3.toNatClampNeg)) 107 4)) 107 4) + (1 : Int32)))) else none else none else none else none else none else if ixN x0_4 24000 = true then if (sF h 108 x0_4.toNatClampNeg) = x0_1 then if ixN x0_4 24000 = true then if (sF h 109 x0_4.toNatClampNeg) = x0_2 then some (.inl (some (.int ((2 : Int32) * x0_4))), h) else if ixN x0_4 24000 = true then evS B d 148 51 [(0, .ref 107), (1, .int x0_1), (2, .int x0_2), (3, .int x0_3), (4, .int (sF h 110 x0_4.toNatClampNeg))] [] h else none else none else if ixN x0_4 24000 = true then evS B d 148 51 [(0, .ref 107), (1, .int x0_1), (2, .int x0_2), (3, .int x0_3), (4, .int (sF h 110 x0_4.toNatClampNeg))] [] h else none else none := by
  obtain ⟨d, rfl⟩ : ∃ e, d = e + 1 := ⟨d - 1, by omega⟩
  refine (es_st 1 (pc' := 53) (L' := [(0, .ref 107), (1, .int x0_1), (2, .int x0_2), (3, .int x0_3), (4, .int x0_4)]) (S' := [.int x0_4]) (h' := h) rfl).trans ?_
  refine (zs_eq (t := 95) rfl rfl rfl).trans (if_cg ?_ ?_)
  · refine (es_st 5 (pc' := 104) (L' := [(0, .ref 107), (1, .int x0_1), (2, .int x0_2), (3, .int x0_3), (4, .int x0_4)]) (S' := [.int x0_1, .int (sF h 107 4), .ref 108]) (h' := h) rfl).trans ?_
    refine (es_ix (c := ixN (sF h 107 4) 24000 = true) (x := (uF h 108 (sF h 107 4).toNatClampNeg x0_1)) (pc' := 105) (L' := [(0, .ref 107), (1, .int x0_1), (2, .int x0_2), (3, .int x0_3), (4, .int x0_4)]) (S' := fun z => []) (h' := fun z => z) rfl rfl rfl).trans (if_cgn ?_)
    refine (es_st 5 (pc' := 114) (L' := [(0, .ref 107), (1, .int x0_1), (2, .int x0_2), (3, .int x0_3), (4, .int x0_4)]) (S' := [.int x0_2, .int (sF (uF h 108 (sF h 107 4).toNatClampNeg x0_1) 107 4), .ref 109]) (h' := (uF h 108 (sF h 107 4).toNatClampNeg x0_1)) rfl).trans ?_
    refine (es_ix (c := ixN (sF (uF h 108 (sF h 107 4).toNatClampNeg x0_1) 107 4) 24000 = true) (x := (uF (uF h 108 (sF h 107 4).toNatClampNeg x0_1) 109 (sF (uF h 108 (sF h 107 4).toNatClampNeg x0_1) 107 4).toNatClampNeg x0_2)) (pc' := 115) (L' := [(0, .ref 107), (1, .int x0_1), (2, .int x0_2), (3, .int x0_3), (4, .int x0_4)]) (S' := fun z => []) (h' := fun z => z) rfl rfl rfl).trans (if_cgn ?_)
    refine (es_st 7 (pc' := 128) (L' := [(0, .ref 107), (1, .int x0_1), (2, .int x0_2), (3, .int x0_3), (4, .int x0_4)]) (S' := [.int x0_3, .ref 111, .int (sF (uF (uF h 108 (sF h 107 4).toNatClampNeg x0_1) 109 (sF (uF h 108 (sF h 107 4).toNatClampNeg x0_1) 107 4).toNatClampNeg x0_2) 107 4), .ref 110]) (h' := (uF (uF h 108 (sF h 107 4).toNatClampNeg x0_1) 109 (sF (uF h 108 (sF h 107 4).toNatClampNeg x0_1) 107 4).toNatClampNeg x0_2)) rfl).trans ?_
    refine (es_ix (c := ixN x0_3 32768 = true) (x := (sF (uF (uF h 108 (sF h 107 4).toNatClampNeg x0_1) 109 (sF (uF h 108 (sF h 107 4).toNatClampNeg x0_1) 107 4).toNatClampNeg x0_2) 111 x0_3.toNatClampNeg)) (pc' := 129) (L' := [(0, .ref 107), (1, .int x0_1), (2, .int x0_2), (3, .int x0_3), (4, .int x0_4)]) (S' := fun z => [.int z, .int (sF (uF (uF h 108 (sF h 107 4).toNatClampNeg x0_1) 109 (sF (uF h 108 (sF h 107 4).toNatClampNeg x0_1) 107 4).toNatClampNeg x0_2) 107 4), .ref 110]) (h' := fun z => (uF (uF h 108 (sF h 107 4).toNatClampNeg x0_1) 109 (sF (uF h 108 (sF h 107 4).toNatClampNeg x0_1) 107 4).toNatClampNeg x0_2)) rfl rfl rfl).trans (if_cgn ?_)
    refine (es_ix (c := ixN (sF (uF (uF h 108 (sF h 107 4).toNatClampNeg x0_1) 109 (sF (uF h 108 (sF h 107 4).toNatClampNeg x0_1) 107 4).toNatClampNeg x0_2) 107 4) 24000 = true) (x := (uF (uF (uF h 108 (sF h 107 4).toNatClampNeg x0_1) 109 (sF (uF h 108 (sF h 107 4).toNatClampNeg x0_1) 107 4).toNatClampNeg x0_2) 110 (sF (uF (uF h 108 (sF h 107 4).toNatClampNeg x0_1) 109 (sF (uF h 108 (sF h 107 4).toNatClampNeg x0_1) 107 4).toNatClampNeg x0_2) 107 4).toNatClampNeg (sF (uF (uF h 108 (sF h 107 4).toNatClampNeg x0_1) 109 (sF (uF h 108 (sF h 107 4).toNatClampNeg x0_1) 107 4).toNatClampNeg x0_2) 111 x0_3.toNatClampNeg))) (pc' := 130) (L' := [(0, .ref 107), (1, .int x0_1), (2, .int x0_2), (3, .int x0_3), (4, .int x0_4)]) (S' := fun z => []) (h' := fun z => z) rfl rfl rfl).trans (if_cgn ?_)
    refine (es_st 5 (pc' := 139) (L' := [(0, .ref 107), (1, .int x0_1), (2, .int x0_2), (3, .int x0_3), (4, .int x0_4)]) (S' := [.int (sF (uF (uF (uF h 108 (sF h 107 4).toNatClampNeg x0_1) 109 (sF (uF h 108 (sF h 107 4).toNatClampNeg x0_1) 107 4).toNatClampNeg x0_2) 110 (sF (uF (uF h 108 (sF h 107 4).toNatClampNeg x0_1) 109 (sF (uF h 108 (sF h 107 4).toNatClampNeg x0_1) 107 4).toNatClampNeg x0_2) 107 4).toNatClampNeg (sF (uF (uF h 108 (sF h 107 4).toNatClampNeg x0_1) 109 (sF (uF h 108 (sF h 107 4).toNatClampNeg x0_1) 107 4).toNatClampNeg x0_2) 111 x0_3.toNatClampNeg)) 107 4), .int x0_3, .ref 111]) (h' := (uF (uF (uF h 108 (sF h 107 4).toNatClampNeg x0_1) 109 (sF (uF h 108 (sF h 107 4).toNatClampNeg x0_1) 107 4).toNatClampNeg x0_2) 110 (sF (uF (uF h 108 (sF h 107 4).toNatClampNeg x0_1) 109 (sF (uF h 108 (sF h 107 4).toNatClampNeg x0_1) 107 4).toNatClampNeg x0_2) 107 4).toNatClampNeg (sF (uF (uF h 108 (sF h 107 4).toNatClampNeg x0_1) 109 (sF (uF h 108 (sF h 107 4).toNatClampNeg x0_1) 107 4).toNatClampNeg x0_2) 111 x0_3.toNatClampNeg))) rfl).trans ?_
    refine (es_ix (c := ixN x0_3 32768 = true) (x := (uF (uF (uF (uF h 108 (sF h 107 4).toNatClampNeg x0_1) 109 (sF (uF h 108 (sF h 107 4).toNatClampNeg x0_1) 107 4).toNatClampNeg x0_2) 110 (sF (uF (uF h 108 (sF h 107 4).toNatClampNeg x0_1) 109 (sF (uF h 108 (sF h 107 4).toNatClampNeg x0_1) 107 4).toNatClampNeg x0_2) 107 4).toNatClampNeg (sF (uF (uF h 108 (sF h 107 4).toNatClampNeg x0_1) 109 (sF (uF h 108 (sF h 107 4).toNatClampNeg x0_1) 107 4).toNatClampNeg x0_2) 111 x0_3.toNatClampNeg)) 111 x0_3.toNatClampNeg (sF (uF (uF (uF h 108 (sF h 107 4).toNatClampNeg x0_1) 109 (sF (uF h 108 (sF h 107 4).toNatClampNeg x0_1) 107 4).toNatClampNeg x0_2) 110 (sF (uF (uF h 108 (sF h 107 4).toNatClampNeg x0_1) 109 (sF (uF h 108 (sF h 107 4).toNatClampNeg x0_1) 107 4).toNatClampNeg x0_2) 107 4).toNatClampNeg (sF (uF (uF h 108 (sF h 107 4).toNatClampNeg x0_1) 109 (sF (uF h 108 (sF h 107 4).toNatClampNeg x0_1) 107 4).toNatClampNeg x0_2) 111 x0_3.toNatClampNeg)) 107 4))) (pc' := 140) (L' := [(0, .ref 107), (1, .int x0_1), (2, .int x0_2), (3, .int x0_3), (4, .int x0_4)]) (S' := fun z => []) (h' := fun z => z) rfl rfl rfl).trans (if_cgn ?_)
    refine (es_st 9 (pc' := 153) (L' := [(0, .ref 107), (1, .int x0_1), (2, .int x0_2), (3, .int x0_3), (4, .int x0_4)]) (S' := [.int ((2 : Int32) * (sF (uF (uF (uF (uF h 108 (sF h 107 4).toNatClampNeg x0_1) 109 (sF (uF h 108 (sF h 107 4).toNatClampNeg x0_1) 107 4).toNatClampNeg x0_2) 110 (sF (uF (uF h 108 (sF h 107 4).toNatClampNeg x0_1) 109 (sF (uF h 108 (sF h 107 4).toNatClampNeg x0_1) 107 4).toNatClampNeg x0_2) 107 4).toNatClampNeg (sF (uF (uF h 108 (sF h 107 4).toNatClampNeg x0_1) 109 (sF (uF h 108 (sF h 107 4).toNatClampNeg x0_1) 107 4).toNatClampNeg x0_2) 111 x0_3.toNatClampNeg)) 111 x0_3.toNatClampNeg (sF (uF (uF (uF h 108 (sF h 107 4).toNatClampNeg x0_1) 109 (sF (uF h 108 (sF h 107 4).toNatClampNeg x0_1) 107 4).toNatClampNeg x0_2) 110 (sF (uF (uF h 108 (sF h 107 4).toNatClampNeg x0_1) 109 (sF (uF h 108 (sF h 107 4).toNatClampNeg x0_1) 107 4).toNatClampNeg x0_2) 107 4).toNatClampNeg (sF (uF (uF h 108 (sF h 107 4).toNatClampNeg x0_1) 109 (sF (uF h 108 (sF h 107 4).toNatClampNeg x0_1) 107 4).toNatClampNeg x0_2) 111 x0_3.toNatClampNeg)) 107 4)) 107 4))]) (h' := (uF (uF (uF (uF (uF h 108 (sF h 107 4).toNatClampNeg x0_1) 109 (sF (uF h 108 (sF h 107 4).toNatClampNeg x0_1) 107 4).toNatClampNeg x0_2) 110 (sF (uF (uF h 108 (sF h 107 4).toNatClampNeg x0_1) 109 (sF (uF h 108 (sF h 107 4).toNatClampNeg x0_1) 107 4).toNatClampNeg x0_2) 107 4).toNatClampNeg (sF (uF (uF h 108 (sF h 107 4).toNatClampNeg x0_1) 109 (sF (uF h 108 (sF h 107 4).toNatClampNeg x0_1) 107 4).toNatClampNeg x0_2) 111 x0_3.toNatClampNeg)) 111 x0_3.toNatClampNeg (sF (uF (uF (uF h 108 (sF h 107 4).toNatClampNeg x0_1) 109 (sF (uF h 108 (sF h 107 4).toNatClampNeg x0_1) 107 4).toNatClampNeg x0_2) 110 (sF (uF (uF h 108 (sF h 107 4).toNatClampNeg x0_1) 109 (sF (uF h 108 (sF h 107 4).toNatClampNeg x0_1) 107 4).toNatClampNeg x0_2) 107 4).toNatClampNeg (sF (uF (uF h 108 (sF h 107 4).toNatClampNeg x0_1) 109 (sF (uF h 108 (sF h 107 4).toNatClampNeg x0_1) 107 4).toNatClampNeg x0_2) 111 x0_3.toNatClampNeg)) 107 4)) 107 4 ((sF (uF (uF (uF (uF h 108 (sF h 107 4).toNatClampNeg x0_1) 109 (sF (uF h 108 (sF h 107 4).toNatClampNeg x0_1) 107 4).toNatClampNeg x0_2) 110 (sF (uF (uF h 108 (sF h 107 4).toNatClampNeg x0_1) 109 (sF (uF h 108 (sF h 107 4).toNatClampNeg x0_1) 107 4).toNatClampNeg x0_2) 107 4).toNatClampNeg (sF (uF (uF h 108 (sF h 107 4).toNatClampNeg x0_1) 109 (sF (uF h 108 (sF h 107 4).toNatClampNeg x0_1) 107 4).toNatClampNeg x0_2) 111 x0_3.toNatClampNeg)) 111 x0_3.toNatClampNeg (sF (uF (uF (uF h 108 (sF h 107 4).toNatClampNeg x0_1) 109 (sF (uF h 108 (sF h 107 4).toNatClampNeg x0_1) 107 4).toNatClampNeg x0_2) 110 (sF (uF (uF h 108 (sF h 107 4).toNatClampNeg x0_1) 109 (sF (uF h 108 (sF h 107 4).toNatClampNeg x0_1) 107 4).toNatClampNeg x0_2) 107 4).toNatClampNeg (sF (uF (uF h 108 (sF h 107 4).toNatClampNeg x0_1) 109 (sF (uF h 108 (sF h 107 4).toNatClampNeg x0_1) 107 4).toNatClampNeg x0_2) 111 x0_3.toNatClampNeg)) 107 4)) 107 4) + (1 : Int32)))) rfl).trans ?_
    exact es_fin rfl rfl rfl
  · refine (es_st 3 (pc' := 62) (L' := [(0, .ref 107), (1, .int x0_1), (2, .int x0_2), (3, .int x0_3), (4, .int x0_4)]) (S' := [.int x0_4, .ref 108]) (h' := h) rfl).trans ?_
    refine (es_ix (c := ixN x0_4 24000 = true) (x := (sF h 108 x0_4.toNatClampNeg)) (pc' := 63) (L' := [(0, .ref 107), (1, .int x0_1), (2, .int x0_2), (3, .int x0_3), (4, .int x0_4)]) (S' := fun z => [.int z]) (h' := fun z => h) rfl rfl rfl).trans (if_cgn ?_)
    refine (es_st 1 (pc' := 64) (L' := [(0, .ref 107), (1, .int x0_1), (2, .int x0_2), (3, .int x0_3), (4, .int x0_4)]) (S' := [.int x0_1, .int (sF h 108 x0_4.toNatClampNeg)]) (h' := h) rfl).trans ?_
    refine (is_ne (t := 83) rfl rfl rfl).trans (if_cg ?_ ?_)
    · refine (es_st 3 (pc' := 73) (L' := [(0, .ref 107), (1, .int x0_1), (2, .int x0_2), (3, .int x0_3), (4, .int x0_4)]) (S' := [.int x0_4, .ref 109]) (h' := h) rfl).trans ?_
      refine (es_ix (c := ixN x0_4 24000 = true) (x := (sF h 109 x0_4.toNatClampNeg)) (pc' := 74) (L' := [(0, .ref 107), (1, .int x0_1), (2, .int x0_2), (3, .int x0_3), (4, .int x0_4)]) (S' := fun z => [.int z]) (h' := fun z => h) rfl rfl rfl).trans (if_cgn ?_)
      refine (es_st 1 (pc' := 75) (L' := [(0, .ref 107), (1, .int x0_1), (2, .int x0_2), (3, .int x0_3), (4, .int x0_4)]) (S' := [.int x0_2, .int (sF h 109 x0_4.toNatClampNeg)]) (h' := h) rfl).trans ?_
      refine (is_ne (t := 83) rfl rfl rfl).trans (if_cg ?_ ?_)
      · refine (es_st 3 (pc' := 82) (L' := [(0, .ref 107), (1, .int x0_1), (2, .int x0_2), (3, .int x0_3), (4, .int x0_4)]) (S' := [.int ((2 : Int32) * x0_4)]) (h' := h) rfl).trans ?_
        exact es_fin rfl rfl rfl
      · refine (es_st 3 (pc' := 89) (L' := [(0, .ref 107), (1, .int x0_1), (2, .int x0_2), (3, .int x0_3), (4, .int x0_4)]) (S' := [.int x0_4, .ref 110]) (h' := h) rfl).trans ?_
        refine (es_ix (c := ixN x0_4 24000 = true) (x := (sF h 110 x0_4.toNatClampNeg)) (pc' := 90) (L' := [(0, .ref 107), (1, .int x0_1), (2, .int x0_2), (3, .int x0_3), (4, .int x0_4)]) (S' := fun z => [.int z]) (h' := fun z => h) rfl rfl rfl).trans (if_cgn ?_)
        refine (es_st 2 (pc' := 51) (L' := [(4, .int (sF h 110 x0_4.toNatClampNeg)), (0, .ref 107), (1, .int x0_1), (2, .int x0_2), (3, .int x0_3)]) (S' := []) (h' := h) rfl).trans ?_
        exact es_cut rfl rfl rfl
    · refine (es_st 3 (pc' := 89) (L' := [(0, .ref 107), (1, .int x0_1), (2, .int x0_2), (3, .int x0_3), (4, .int x0_4)]) (S' := [.int x0_4, .ref 110]) (h' := h) rfl).trans ?_
      refine (es_ix (c := ixN x0_4 24000 = true) (x := (sF h 110 x0_4.toNatClampNeg)) (pc' := 90) (L' := [(0, .ref 107), (1, .int x0_1), (2, .int x0_2), (3, .int x0_3), (4, .int x0_4)]) (S' := fun z => [.int z]) (h' := fun z => h) rfl rfl rfl).trans (if_cgn ?_)
      refine (es_st 2 (pc' := 51) (L' := [(4, .int (sF h 110 x0_4.toNatClampNeg)), (0, .ref 107), (1, .int x0_1), (2, .int x0_2), (3, .int x0_3)]) (S' := []) (h' := h) rfl).trans ?_
      exact es_cut rfl rfl rfl
theorem sX7_bucket_0 (B : Bool) (d : Nat) (h : SG) (x0_0 : Int32) (x0_1 : Int32) : mS B d 149 [.int x0_0, .int x0_1] h = some (.inl (some (.int (((x0_0 * (7919 : Int32)) + (x0_1 * (31 : Int32))) &&& (32767 : Int32)))), h) := by
  show evS B d 149 0 [(0, .int x0_0), (1, .int x0_1)] [] h = _
  refine (es_st 9 (pc' := 14) (L' := [(0, .int x0_0), (1, .int x0_1)]) (S' := [.int (((x0_0 * (7919 : Int32)) + (x0_1 * (31 : Int32))) &&& (32767 : Int32))]) (h' := h) rfl).trans ?_
  exact es_fin rfl rfl rfl
theorem sX7_or_0 (B : Bool) (d : Nat) (hd : 1 ≤ d) (h : SG) (x0_1 : Int32) (x0_2 : Int32) : mS B d 150 [.ref 107, .int x0_1, .int x0_2] h = kI (mS B (d - 1) 148 [.ref 107, .int (x0_1 ^^^ (1 : Int32)), .int (x0_2 ^^^ (1 : Int32))] h) (fun x2 h1 => some (.inl (some (.int (x2 ^^^ (1 : Int32)))), h1)) := by
  obtain ⟨d, rfl⟩ : ∃ e, d = e + 1 := ⟨d - 1, by omega⟩
  show evS B (d + 1) 150 0 [(0, .ref 107), (1, .int x0_1), (2, .int x0_2)] [] h = _
  refine (es_st 7 (pc' := 7) (L' := [(0, .ref 107), (1, .int x0_1), (2, .int x0_2)]) (S' := [.int (x0_2 ^^^ (1 : Int32)), .int (x0_1 ^^^ (1 : Int32)), .ref 107]) (h' := h) rfl).trans ?_
  refine (es_cI (b := true) (k' := 148) (pc' := 10) (as := [.ref 107, .int (x0_1 ^^^ (1 : Int32)), .int (x0_2 ^^^ (1 : Int32))]) (S' := []) (L' := [(0, .ref 107), (1, .int x0_1), (2, .int x0_2)]) (h' := h) rfl rfl rfl rfl rfl).trans (kI_cg fun x2 h1 => ?_)
  refine (es_st 2 (pc' := 12) (L' := [(0, .ref 107), (1, .int x0_1), (2, .int x0_2)]) (S' := [.int (x2 ^^^ (1 : Int32))]) (h' := h1) rfl).trans ?_
  exact es_fin rfl rfl rfl
theorem sX7_xor_0 (B : Bool) (d : Nat) (hd : 1 ≤ d) (h : SG) (x0_1 : Int32) (x0_2 : Int32) : mS B d 151 [.ref 107, .int x0_1, .int x0_2] h = kI (mS B (d - 1) 147 [.ref 107, .int x0_1, .int (x0_2 ^^^ (1 : Int32)), .int x0_2] h) (fun x2 h1 => some (.inl (some (.int x2)), h1)) := by
  obtain ⟨d, rfl⟩ : ∃ e, d = e + 1 := ⟨d - 1, by omega⟩
  show evS B (d + 1) 151 0 [(0, .ref 107), (1, .int x0_1), (2, .int x0_2)] [] h = _
  refine (es_st 6 (pc' := 6) (L' := [(0, .ref 107), (1, .int x0_1), (2, .int x0_2)]) (S' := [.int x0_2, .int (x0_2 ^^^ (1 : Int32)), .int x0_1, .ref 107]) (h' := h) rfl).trans ?_
  refine (es_cI (b := true) (k' := 147) (pc' := 9) (as := [.ref 107, .int x0_1, .int (x0_2 ^^^ (1 : Int32)), .int x0_2]) (S' := []) (L' := [(0, .ref 107), (1, .int x0_1), (2, .int x0_2)]) (h' := h) rfl rfl rfl rfl rfl).trans (kI_cg fun x2 h1 => ?_)
  exact es_fin rfl rfl rfl
theorem sX7_isFreeA_0 (B : Bool) (d : Nat) (h : SG) (x0_1 : Int32) : mS B d 152 [.ref 55, .int x0_1] h = if ixN x0_1 24000 = true then if (sF h 56 x0_1.toNatClampNeg) = (-1 : Int32) then some (.inl (some (.int (1 : Int32))), h) else some (.inl (some (.int (0 : Int32))), h) else none := by
  show evS B d 152 0 [(0, .ref 55), (1, .int x0_1)] [] h = _
  refine (es_st 3 (pc' := 5) (L' := [(0, .ref 55), (1, .int x0_1)]) (S' := [.int x0_1, .ref 56]) (h' := h) rfl).trans ?_
  refine (es_ix (c := ixN x0_1 24000 = true) (x := (sF h 56 x0_1.toNatClampNeg)) (pc' := 6) (L' := [(0, .ref 55), (1, .int x0_1)]) (S' := fun z => [.int z]) (h' := fun z => h) rfl rfl rfl).trans (if_cgn ?_)
  refine (es_st 1 (pc' := 7) (L' := [(0, .ref 55), (1, .int x0_1)]) (S' := [.int (-1 : Int32), .int (sF h 56 x0_1.toNatClampNeg)]) (h' := h) rfl).trans ?_
  refine (is_ne (t := 14) rfl rfl rfl).trans (if_cg ?_ ?_)
  · refine (es_st 2 (pc' := 15) (L' := [(0, .ref 55), (1, .int x0_1)]) (S' := [.int (1 : Int32)]) (h' := h) rfl).trans ?_
    exact es_fin rfl rfl rfl
  · refine (es_st 1 (pc' := 15) (L' := [(0, .ref 55), (1, .int x0_1)]) (S' := [.int (0 : Int32)]) (h' := h) rfl).trans ?_
    exact es_fin rfl rfl rfl
theorem sX7_isFree_0 (B : Bool) (d : Nat) (h : SG) (x0_1 : Int32) : mS B d 152 [.ref 107, .int x0_1] h = if ixN x0_1 24000 = true then if (sF h 108 x0_1.toNatClampNeg) = (-1 : Int32) then some (.inl (some (.int (1 : Int32))), h) else some (.inl (some (.int (0 : Int32))), h) else none := by
  show evS B d 152 0 [(0, .ref 107), (1, .int x0_1)] [] h = _
  refine (es_st 3 (pc' := 5) (L' := [(0, .ref 107), (1, .int x0_1)]) (S' := [.int x0_1, .ref 108]) (h' := h) rfl).trans ?_
  refine (es_ix (c := ixN x0_1 24000 = true) (x := (sF h 108 x0_1.toNatClampNeg)) (pc' := 6) (L' := [(0, .ref 107), (1, .int x0_1)]) (S' := fun z => [.int z]) (h' := fun z => h) rfl rfl rfl).trans (if_cgn ?_)
  refine (es_st 1 (pc' := 7) (L' := [(0, .ref 107), (1, .int x0_1)]) (S' := [.int (-1 : Int32), .int (sF h 108 x0_1.toNatClampNeg)]) (h' := h) rfl).trans ?_
  refine (is_ne (t := 14) rfl rfl rfl).trans (if_cg ?_ ?_)
  · refine (es_st 2 (pc' := 15) (L' := [(0, .ref 107), (1, .int x0_1)]) (S' := [.int (1 : Int32)]) (h' := h) rfl).trans ?_
    exact es_fin rfl rfl rfl
  · refine (es_st 1 (pc' := 15) (L' := [(0, .ref 107), (1, .int x0_1)]) (S' := [.int (0 : Int32)]) (h' := h) rfl).trans ?_
    exact es_fin rfl rfl rfl
theorem sX8_clear_0 (B : Bool) (d : Nat) (h : SG) : mS B d 154 [.ref 112] h = ob (pSz h 113 (0 : Int32)) (fun h1 => ob (pSz h1 115 (0 : Int32)) (fun h2 => some (.inl none, h2))) := by
  show evS B d 154 0 [(0, .ref 112)] [] h = _
  refine (es_st 3 (pc' := 5) (L' := [(0, .ref 112)]) (S' := [.int (0 : Int32), .ref 113]) (h' := h) rfl).trans ?_
  refine (es_ob (o := pSz h 113 (0 : Int32)) (pc' := 8) (L' := [(0, .ref 112)]) (S' := fun z => []) (h' := fun z => z) rfl rfl rfl).trans (ob_cg fun h1 => ?_)
  refine (es_st 3 (pc' := 13) (L' := [(0, .ref 112)]) (S' := [.int (0 : Int32), .ref 115]) (h' := h1) rfl).trans ?_
  refine (es_ob (o := pSz h1 115 (0 : Int32)) (pc' := 16) (L' := [(0, .ref 112)]) (S' := fun z => []) (h' := fun z => z) rfl rfl rfl).trans (ob_cg fun h2 => ?_)
  exact es_fin rfl rfl rfl
theorem sX8_constant_0 (B : Bool) (d : Nat) (hd : 4 ≤ d) (h : SG) (x0_1 : Int32) (y0_2 : Int64) : mS B d 155 [.ref 112, .int x0_1, .long y0_2] h = evS B d 155 3 [(0, .ref 112), (1, .int x0_1), (2, .long y0_2), (4, .int (0 : Int32))] [] h := by
  obtain ⟨d, rfl⟩ : ∃ e, d = e + 4 := ⟨d - 4, by omega⟩
  show evS B (d + 4) 155 0 [(0, .ref 112), (1, .int x0_1), (2, .long y0_2)] [] h = _
  refine (es_st 2 (pc' := 3) (L' := [(4, .int (0 : Int32)), (0, .ref 112), (1, .int x0_1), (2, .long y0_2)]) (S' := []) (h' := h) rfl).trans ?_
  exact es_cut rfl rfl rfl
theorem sX8_constant_3 (B : Bool) (d : Nat) (hd : 4 ≤ d) (h : SG) (x0_1 : Int32) (y0_2 : Int64) (x0_4 : Int32) : evS B d 155 3 [(0, .ref 112), (1, .int x0_1), (2, .long y0_2), (4, .int x0_4)] [] h = if x0_1 ≤ x0_4 then ob (rAdd h 115 x0_1) (fun q1 => some (.inl none, q1.2)) else ob (rAdd h 113 (((lus y0_2 x0_4) &&& (1 : Int64)).toInt32)) (fun q2 => evS B d 155 3 [(0, .ref 112), (1, .int x0_1), (2, .long y0_2), (4, .int (x0_4 + (1 : Int32)))] [] q2.2) := by
  obtain ⟨d, rfl⟩ : ∃ e, d = e + 4 := ⟨d - 4, by omega⟩
  refine (es_st 2 (pc' := 6) (L' := [(0, .ref 112), (1, .int x0_1), (2, .long y0_2), (4, .int x0_4)]) (S' := [.int x0_1, .int x0_4]) (h' := h) rfl).trans ?_
  refine (is_ge (t := 30) rfl rfl rfl).trans (if_cg ?_ ?_)
  · refine (es_st 3 (pc' := 35) (L' := [(0, .ref 112), (1, .int x0_1), (2, .long y0_2), (4, .int x0_4)]) (S' := [.int x0_1, .ref 115]) (h' := h) rfl).trans ?_
    refine (es_ob (o := rAdd h 115 x0_1) (pc' := 38) (L' := [(0, .ref 112), (1, .int x0_1), (2, .long y0_2), (4, .int x0_4)]) (S' := fun z => [.int z.1]) (h' := fun z => z.2) rfl rfl rfl).trans (ob_cg fun q1 => ?_)
    refine (es_st 1 (pc' := 39) (L' := [(0, .ref 112), (1, .int x0_1), (2, .long y0_2), (4, .int x0_4)]) (S' := []) (h' := q1.2) rfl).trans ?_
    exact es_fin rfl rfl rfl
  · refine (es_st 8 (pc' := 20) (L' := [(0, .ref 112), (1, .int x0_1), (2, .long y0_2), (4, .int x0_4)]) (S' := [.int ((lus y0_2 x0_4) &&& (1 : Int64)).toInt32, .ref 113]) (h' := h) rfl).trans ?_
    refine (es_ob (o := rAdd h 113 (((lus y0_2 x0_4) &&& (1 : Int64)).toInt32)) (pc' := 23) (L' := [(0, .ref 112), (1, .int x0_1), (2, .long y0_2), (4, .int x0_4)]) (S' := fun z => [.int z.1]) (h' := fun z => z.2) rfl rfl rfl).trans (ob_cg fun q2 => ?_)
    refine (es_st 3 (pc' := 3) (L' := [(4, .int (x0_4 + (1 : Int32))), (0, .ref 112), (1, .int x0_1), (2, .long y0_2)]) (S' := []) (h' := q2.2) rfl).trans ?_
    exact es_cut rfl rfl rfl
theorem sX8_vector_0 (B : Bool) (d : Nat) (hd : 4 ≤ d) (h : SG) (x0_2 : Int32) (x0_3 : Int32) : mS B d 156 [.ref 112, .ref 121, .int x0_2, .int x0_3] h = evS B d 156 3 [(0, .ref 112), (1, .ref 121), (2, .int x0_2), (3, .int x0_3), (4, .int (0 : Int32))] [] h := by
  obtain ⟨d, rfl⟩ : ∃ e, d = e + 4 := ⟨d - 4, by omega⟩
  show evS B (d + 4) 156 0 [(0, .ref 112), (1, .ref 121), (2, .int x0_2), (3, .int x0_3)] [] h = _
  refine (es_st 2 (pc' := 3) (L' := [(4, .int (0 : Int32)), (0, .ref 112), (1, .ref 121), (2, .int x0_2), (3, .int x0_3)]) (S' := []) (h' := h) rfl).trans ?_
  exact es_cut rfl rfl rfl
theorem sX8_vector_3 (B : Bool) (d : Nat) (hd : 4 ≤ d) (h : SG) (x0_2 : Int32) (x0_3 : Int32) (x0_4 : Int32) : evS B d 156 3 [(0, .ref 112), (1, .ref 121), (2, .int x0_2), (3, .int x0_3), (4, .int x0_4)] [] h = if x0_3 ≤ x0_4 then ob (rAdd h 115 x0_3) (fun q1 => some (.inl none, q1.2)) else ob (rAt h 121 (x0_2 + x0_4)) (fun x2 => ob (rAdd h 113 x2) (fun q3 => evS B d 156 3 [(0, .ref 112), (1, .ref 121), (2, .int x0_2), (3, .int x0_3), (4, .int (x0_4 + (1 : Int32)))] [] q3.2)) := by
  obtain ⟨d, rfl⟩ : ∃ e, d = e + 4 := ⟨d - 4, by omega⟩
  refine (es_st 2 (pc' := 6) (L' := [(0, .ref 112), (1, .ref 121), (2, .int x0_2), (3, .int x0_3), (4, .int x0_4)]) (S' := [.int x0_3, .int x0_4]) (h' := h) rfl).trans ?_
  refine (is_ge (t := 31) rfl rfl rfl).trans (if_cg ?_ ?_)
  · refine (es_st 3 (pc' := 36) (L' := [(0, .ref 112), (1, .ref 121), (2, .int x0_2), (3, .int x0_3), (4, .int x0_4)]) (S' := [.int x0_3, .ref 115]) (h' := h) rfl).trans ?_
    refine (es_ob (o := rAdd h 115 x0_3) (pc' := 39) (L' := [(0, .ref 112), (1, .ref 121), (2, .int x0_2), (3, .int x0_3), (4, .int x0_4)]) (S' := fun z => [.int z.1]) (h' := fun z => z.2) rfl rfl rfl).trans (ob_cg fun q1 => ?_)
    refine (es_st 1 (pc' := 40) (L' := [(0, .ref 112), (1, .ref 121), (2, .int x0_2), (3, .int x0_3), (4, .int x0_4)]) (S' := []) (h' := q1.2) rfl).trans ?_
    exact es_fin rfl rfl rfl
  · refine (es_st 6 (pc' := 18) (L' := [(0, .ref 112), (1, .ref 121), (2, .int x0_2), (3, .int x0_3), (4, .int x0_4)]) (S' := [.int (x0_2 + x0_4), .ref 121, .ref 113]) (h' := h) rfl).trans ?_
    refine (es_ob (o := rAt h 121 (x0_2 + x0_4)) (pc' := 21) (L' := [(0, .ref 112), (1, .ref 121), (2, .int x0_2), (3, .int x0_3), (4, .int x0_4)]) (S' := fun z => [.int z, .ref 113]) (h' := fun z => h) rfl rfl rfl).trans (ob_cg fun x2 => ?_)
    refine (es_ob (o := rAdd h 113 x2) (pc' := 24) (L' := [(0, .ref 112), (1, .ref 121), (2, .int x0_2), (3, .int x0_3), (4, .int x0_4)]) (S' := fun z => [.int z.1]) (h' := fun z => z.2) rfl rfl rfl).trans (ob_cg fun q3 => ?_)
    refine (es_st 3 (pc' := 3) (L' := [(4, .int (x0_4 + (1 : Int32))), (0, .ref 112), (1, .ref 121), (2, .int x0_2), (3, .int x0_3)]) (S' := []) (h' := q3.2) rfl).trans ?_
    exact es_cut rfl rfl rfl
theorem sX8_part_0 (B : Bool) (d : Nat) (hd : 4 ≤ d) (h : SG) (x0_1 : Int32) (x0_2 : Int32) : mS B d 157 [.ref 112, .int x0_1, .int x0_2] h = kI (mS B (d - 1) 158 [.ref 112, .int (0 : Int32)] h) (fun x2 h1 => evS B d 157 9 [(0, .ref 112), (1, .int x0_1), (2, .int x0_2), (3, .int x2), (4, .int x0_2)] [] h1) := by
  obtain ⟨d, rfl⟩ : ∃ e, d = e + 4 := ⟨d - 4, by omega⟩
  show evS B (d + 4) 157 0 [(0, .ref 112), (1, .int x0_1), (2, .int x0_2)] [] h = _
  refine (es_st 2 (pc' := 2) (L' := [(0, .ref 112), (1, .int x0_1), (2, .int x0_2)]) (S' := [.int (0 : Int32), .ref 112]) (h' := h) rfl).trans ?_
  refine (es_cI (b := true) (k' := 158) (pc' := 5) (as := [.ref 112, .int (0 : Int32)]) (S' := []) (L' := [(0, .ref 112), (1, .int x0_1), (2, .int x0_2)]) (h' := h) rfl rfl rfl rfl rfl).trans (kI_cg fun x2 h1 => ?_)
  refine (es_st 3 (pc' := 9) (L' := [(4, .int x0_2), (3, .int x2), (0, .ref 112), (1, .int x0_1), (2, .int x0_2)]) (S' := []) (h' := h1) rfl).trans ?_
  exact es_cut rfl rfl rfl
theorem sX8_part_9 (B : Bool) (d : Nat) (hd : 4 ≤ d) (h : SG) (x0_1 : Int32) (x0_2 : Int32) (x0_3 : Int32) (x0_4 : Int32) : evS B d 157 9 [(0, .ref 112), (1, .int x0_1), (2, .int x0_2), (3, .int x0_3), (4, .int x0_4)] [] h = if x0_1 < x0_4 then kV (mS B (d - 1) 159 [.ref 112, .int (1 : Int32), .int ((x0_1 - x0_2) + (1 : Int32))] h) (fun h1 => some (.inl none, h1)) else ob (rAt h 113 (x0_3 + x0_4)) (fun x2 => ob (rAdd h 113 x2) (fun q3 => evS B d 157 9 [(0, .ref 112), (1, .int x0_1), (2, .int x0_2), (3, .int x0_3), (4, .int (x0_4 + (1 : Int32)))] [] q3.2)) := by
  obtain ⟨d, rfl⟩ : ∃ e, d = e + 4 := ⟨d - 4, by omega⟩
  refine (es_st 2 (pc' := 12) (L' := [(0, .ref 112), (1, .int x0_1), (2, .int x0_2), (3, .int x0_3), (4, .int x0_4)]) (S' := [.int x0_1, .int x0_4]) (h' := h) rfl).trans ?_
  refine (is_gt (t := 40) rfl rfl rfl).trans (if_cg ?_ ?_)
  · refine (es_st 7 (pc' := 47) (L' := [(0, .ref 112), (1, .int x0_1), (2, .int x0_2), (3, .int x0_3), (4, .int x0_4)]) (S' := [.int ((x0_1 - x0_2) + (1 : Int32)), .int (1 : Int32), .ref 112]) (h' := h) rfl).trans ?_
    refine (es_cV (b := true) (k' := 159) (pc' := 50) (as := [.ref 112, .int (1 : Int32), .int ((x0_1 - x0_2) + (1 : Int32))]) (S' := []) (L' := [(0, .ref 112), (1, .int x0_1), (2, .int x0_2), (3, .int x0_3), (4, .int x0_4)]) (h' := h) rfl rfl rfl rfl rfl).trans (kV_cg fun h1 => ?_)
    exact es_fin rfl rfl rfl
  · refine (es_st 7 (pc' := 27) (L' := [(0, .ref 112), (1, .int x0_1), (2, .int x0_2), (3, .int x0_3), (4, .int x0_4)]) (S' := [.int (x0_3 + x0_4), .ref 113, .ref 113]) (h' := h) rfl).trans ?_
    refine (es_ob (o := rAt h 113 (x0_3 + x0_4)) (pc' := 30) (L' := [(0, .ref 112), (1, .int x0_1), (2, .int x0_2), (3, .int x0_3), (4, .int x0_4)]) (S' := fun z => [.int z, .ref 113]) (h' := fun z => h) rfl rfl rfl).trans (ob_cg fun x2 => ?_)
    refine (es_ob (o := rAdd h 113 x2) (pc' := 33) (L' := [(0, .ref 112), (1, .int x0_1), (2, .int x0_2), (3, .int x0_3), (4, .int x0_4)]) (S' := fun z => [.int z.1]) (h' := fun z => z.2) rfl rfl rfl).trans (ob_cg fun q3 => ?_)
    refine (es_st 3 (pc' := 9) (L' := [(4, .int (x0_4 + (1 : Int32))), (0, .ref 112), (1, .int x0_1), (2, .int x0_2), (3, .int x0_3)]) (S' := []) (h' := q3.2) rfl).trans ?_
    exact es_cut rfl rfl rfl
theorem sX8_from_0 (B : Bool) (d : Nat) (hd : 4 ≤ d) (h : SG) (x0_1 : Int32) : mS B d 158 [.ref 112, .int x0_1] h = evS B d 158 10 [(0, .ref 112), (1, .int x0_1), (2, .int (Int32.ofNat (sW h 113).length)), (3, .int (0 : Int32))] [] h := by
  obtain ⟨d, rfl⟩ : ∃ e, d = e + 4 := ⟨d - 4, by omega⟩
  show evS B (d + 4) 158 0 [(0, .ref 112), (1, .int x0_1)] [] h = _
  refine (es_st 6 (pc' := 10) (L' := [(3, .int (0 : Int32)), (2, .int (Int32.ofNat (sW h 113).length)), (0, .ref 112), (1, .int x0_1)]) (S' := []) (h' := h) rfl).trans ?_
  exact es_cut rfl rfl rfl
theorem sX8_from_10 (B : Bool) (d : Nat) (hd : 4 ≤ d) (h : SG) (x0_1 : Int32) (x0_2 : Int32) (x0_3 : Int32) : evS B d 158 10 [(0, .ref 112), (1, .int x0_1), (2, .int x0_2), (3, .int x0_3)] [] h = if x0_1 < x0_3 then some (.inl (some (.int x0_2)), h) else ob (rAt h 115 (((Int32.ofNat (sW h 115).length) - (1 : Int32)) - x0_3)) (fun x1 => evS B d 158 10 [(0, .ref 112), (1, .int x0_1), (2, .int (x0_2 - x1)), (3, .int (x0_3 + (1 : Int32)))] [] h) := by
  obtain ⟨d, rfl⟩ : ∃ e, d = e + 4 := ⟨d - 4, by omega⟩
  refine (es_st 2 (pc' := 12) (L' := [(0, .ref 112), (1, .int x0_1), (2, .int x0_2), (3, .int x0_3)]) (S' := [.int x0_1, .int x0_3]) (h' := h) rfl).trans ?_
  refine (is_gt (t := 42) rfl rfl rfl).trans (if_cg ?_ ?_)
  · refine (es_st 1 (pc' := 43) (L' := [(0, .ref 112), (1, .int x0_1), (2, .int x0_2), (3, .int x0_3)]) (S' := [.int x0_2]) (h' := h) rfl).trans ?_
    exact es_fin rfl rfl rfl
  · refine (es_st 10 (pc' := 31) (L' := [(0, .ref 112), (1, .int x0_1), (2, .int x0_2), (3, .int x0_3)]) (S' := [.int (((Int32.ofNat (sW h 115).length) - (1 : Int32)) - x0_3), .ref 115, .int x0_2]) (h' := h) rfl).trans ?_
    refine (es_ob (o := rAt h 115 (((Int32.ofNat (sW h 115).length) - (1 : Int32)) - x0_3)) (pc' := 34) (L' := [(0, .ref 112), (1, .int x0_1), (2, .int x0_2), (3, .int x0_3)]) (S' := fun z => [.int z, .int x0_2]) (h' := fun z => h) rfl rfl rfl).trans (ob_cg fun x1 => ?_)
    refine (es_st 4 (pc' := 10) (L' := [(3, .int (x0_3 + (1 : Int32))), (2, .int (x0_2 - x1)), (0, .ref 112), (1, .int x0_1)]) (S' := []) (h' := h) rfl).trans ?_
    exact es_cut rfl rfl rfl
theorem sX8_result_0 (B : Bool) (d : Nat) (hd : 4 ≤ d) (h : SG) (x0_1 : Int32) (x0_2 : Int32) : mS B d 159 [.ref 112, .int x0_1, .int x0_2] h = evS B d 159 13 [(0, .ref 112), (1, .int x0_1), (2, .int x0_2), (3, .int ((Int32.ofNat (sW h 113).length) - x0_2)), (4, .int (0 : Int32))] [] h := by
  obtain ⟨d, rfl⟩ : ∃ e, d = e + 4 := ⟨d - 4, by omega⟩
  show evS B (d + 4) 159 0 [(0, .ref 112), (1, .int x0_1), (2, .int x0_2)] [] h = _
  refine (es_st 8 (pc' := 13) (L' := [(4, .int (0 : Int32)), (3, .int ((Int32.ofNat (sW h 113).length) - x0_2)), (0, .ref 112), (1, .int x0_1), (2, .int x0_2)]) (S' := []) (h' := h) rfl).trans ?_
  exact es_cut rfl rfl rfl
theorem sX8_result_13 (B : Bool) (d : Nat) (hd : 4 ≤ d) (h : SG) (x0_1 : Int32) (x0_2 : Int32) (x0_3 : Int32) (x0_4 : Int32) : evS B d 159 13 [(0, .ref 112), (1, .int x0_1), (2, .int x0_2), (3, .int x0_3), (4, .int x0_4)] [] h = if x0_1 ≤ x0_4 then evS B d 159 49 [(0, .ref 112), (2, .int x0_2), (3, .int x0_3), (4, .int ((Int32.ofNat (sW h 113).length) - x0_2)), (5, .int (0 : Int32))] [] h else ob (rTake h 115) (fun q1 => evS B d 159 13 [(0, .ref 112), (1, .int x0_1), (2, .int x0_2), (3, .int (x0_3 - q1.1)), (4, .int (x0_4 + (1 : Int32)))] [] q1.2) := by
  obtain ⟨d, rfl⟩ : ∃ e, d = e + 4 := ⟨d - 4, by omega⟩
  refine (es_st 2 (pc' := 16) (L' := [(0, .ref 112), (1, .int x0_1), (2, .int x0_2), (3, .int x0_3), (4, .int x0_4)]) (S' := [.int x0_1, .int x0_4]) (h' := h) rfl).trans ?_
  refine (is_ge (t := 35) rfl rfl rfl).trans (if_cg ?_ ?_)
  · refine (es_st 8 (pc' := 49) (L' := [(5, .int (0 : Int32)), (4, .int ((Int32.ofNat (sW h 113).length) - x0_2)), (0, .ref 112), (1, .int x0_1), (2, .int x0_2), (3, .int x0_3)]) (S' := []) (h' := h) rfl).trans ?_
    exact es_cut rfl rfl rfl
  · refine (es_st 3 (pc' := 24) (L' := [(0, .ref 112), (1, .int x0_1), (2, .int x0_2), (3, .int x0_3), (4, .int x0_4)]) (S' := [.ref 115, .int x0_3]) (h' := h) rfl).trans ?_
    refine (es_ob (o := rTake h 115) (pc' := 27) (L' := [(0, .ref 112), (1, .int x0_1), (2, .int x0_2), (3, .int x0_3), (4, .int x0_4)]) (S' := fun z => [.int z.1, .int x0_3]) (h' := fun z => z.2) rfl rfl rfl).trans (ob_cg fun q1 => ?_)
    refine (es_st 4 (pc' := 13) (L' := [(4, .int (x0_4 + (1 : Int32))), (3, .int (x0_3 - q1.1)), (0, .ref 112), (1, .int x0_1), (2, .int x0_2)]) (S' := []) (h' := q1.2) rfl).trans ?_
    exact es_cut rfl rfl rfl
theorem sX8_result_49 (B : Bool) (d : Nat) (hd : 4 ≤ d) (h : SG) (x0_2 : Int32) (x0_3 : Int32) (x0_4 : Int32) (x0_5 : Int32) : evS B d 159 49 [(0, .ref 112), (2, .int x0_2), (3, .int x0_3), (4, .int x0_4), (5, .int x0_5)] [] h = if x0_2 ≤ x0_5 then ob (pSz h 113 (x0_3 + x0_2)) (fun h1 => ob (rAdd h1 115 x0_2) (fun q2 => some (.inl none, q2.2))) else ob (rAt h 113 (x0_4 + x0_5)) (fun x3 => ob (rSet h 113 (x0_3 + x0_5) x3) (fun h4 => evS B d 159 49 [(0, .ref 112), (2, .int x0_2), (3, .int x0_3), (4, .int x0_4), (5, .int (x0_5 + (1 : Int32)))] [] h4)) := by
  obtain ⟨d, rfl⟩ : ∃ e, d = e + 4 := ⟨d - 4, by omega⟩
  refine (es_st 2 (pc' := 52) (L' := [(0, .ref 112), (2, .int x0_2), (3, .int x0_3), (4, .int x0_4), (5, .int x0_5)]) (S' := [.int x0_2, .int x0_5]) (h' := h) rfl).trans ?_
  refine (is_ge (t := 84) rfl rfl rfl).trans (if_cg ?_ ?_)
  · refine (es_st 5 (pc' := 91) (L' := [(0, .ref 112), (2, .int x0_2), (3, .int x0_3), (4, .int x0_4), (5, .int x0_5)]) (S' := [.int (x0_3 + x0_2), .ref 113]) (h' := h) rfl).trans ?_
    refine (es_ob (o := pSz h 113 (x0_3 + x0_2)) (pc' := 94) (L' := [(0, .ref 112), (2, .int x0_2), (3, .int x0_3), (4, .int x0_4), (5, .int x0_5)]) (S' := fun z => []) (h' := fun z => z) rfl rfl rfl).trans (ob_cg fun h1 => ?_)
    refine (es_st 3 (pc' := 99) (L' := [(0, .ref 112), (2, .int x0_2), (3, .int x0_3), (4, .int x0_4), (5, .int x0_5)]) (S' := [.int x0_2, .ref 115]) (h' := h1) rfl).trans ?_
    refine (es_ob (o := rAdd h1 115 x0_2) (pc' := 102) (L' := [(0, .ref 112), (2, .int x0_2), (3, .int x0_3), (4, .int x0_4), (5, .int x0_5)]) (S' := fun z => [.int z.1]) (h' := fun z => z.2) rfl rfl rfl).trans (ob_cg fun q2 => ?_)
    refine (es_st 1 (pc' := 103) (L' := [(0, .ref 112), (2, .int x0_2), (3, .int x0_3), (4, .int x0_4), (5, .int x0_5)]) (S' := []) (h' := q2.2) rfl).trans ?_
    exact es_fin rfl rfl rfl
  · refine (es_st 10 (pc' := 72) (L' := [(0, .ref 112), (2, .int x0_2), (3, .int x0_3), (4, .int x0_4), (5, .int x0_5)]) (S' := [.int (x0_4 + x0_5), .ref 113, .int (x0_3 + x0_5), .ref 113]) (h' := h) rfl).trans ?_
    refine (es_ob (o := rAt h 113 (x0_4 + x0_5)) (pc' := 75) (L' := [(0, .ref 112), (2, .int x0_2), (3, .int x0_3), (4, .int x0_4), (5, .int x0_5)]) (S' := fun z => [.int z, .int (x0_3 + x0_5), .ref 113]) (h' := fun z => h) rfl rfl rfl).trans (ob_cg fun x3 => ?_)
    refine (es_ob (o := rSet h 113 (x0_3 + x0_5) x3) (pc' := 78) (L' := [(0, .ref 112), (2, .int x0_2), (3, .int x0_3), (4, .int x0_4), (5, .int x0_5)]) (S' := fun z => []) (h' := fun z => z) rfl rfl rfl).trans (ob_cg fun h4 => ?_)
    refine (es_st 2 (pc' := 49) (L' := [(5, .int (x0_5 + (1 : Int32))), (0, .ref 112), (2, .int x0_2), (3, .int x0_3), (4, .int x0_4)]) (S' := []) (h' := h4) rfl).trans ?_
    exact es_cut rfl rfl rfl
theorem sX8_pick_0 (B : Bool) (d : Nat) (hd : 4 ≤ d) (h : SG) : mS B d 160 [.ref 112] h = ob (rAt h 115 ((Int32.ofNat (sW h 115).length) - (2 : Int32))) (fun x1 => kI (mS B (d - 1) 161 [.ref 112] h) (fun x3 h2 => kI (mS B (d - 1) 158 [.ref 112, .int (1 : Int32)] h2) (fun x5 h4 => kI (mS B (d - 1) 158 [.ref 112, .int (0 : Int32)] h4) (fun x7 h6 => evS B d 160 38 [(0, .ref 112), (1, .int x1), (2, .int x3), (3, .int x5), (4, .int x7), (5, .int (0 : Int32))] [] h6)))) := by
  obtain ⟨d, rfl⟩ : ∃ e, d = e + 4 := ⟨d - 4, by omega⟩
  show evS B (d + 4) 160 0 [(0, .ref 112)] [] h = _
  refine (es_st 7 (pc' := 13) (L' := [(0, .ref 112)]) (S' := [.int ((Int32.ofNat (sW h 115).length) - (2 : Int32)), .ref 115]) (h' := h) rfl).trans ?_
  refine (es_ob (o := rAt h 115 ((Int32.ofNat (sW h 115).length) - (2 : Int32))) (pc' := 16) (L' := [(0, .ref 112)]) (S' := fun z => [.int z]) (h' := fun z => h) rfl rfl rfl).trans (ob_cg fun x1 => ?_)
  refine (es_st 2 (pc' := 18) (L' := [(1, .int x1), (0, .ref 112)]) (S' := [.ref 112]) (h' := h) rfl).trans ?_
  refine (es_cI (b := true) (k' := 161) (pc' := 21) (as := [.ref 112]) (S' := []) (L' := [(1, .int x1), (0, .ref 112)]) (h' := h) rfl rfl rfl rfl rfl).trans (kI_cg fun x3 h2 => ?_)
  refine (es_st 3 (pc' := 24) (L' := [(2, .int x3), (1, .int x1), (0, .ref 112)]) (S' := [.int (1 : Int32), .ref 112]) (h' := h2) rfl).trans ?_
  refine (es_cI (b := true) (k' := 158) (pc' := 27) (as := [.ref 112, .int (1 : Int32)]) (S' := []) (L' := [(2, .int x3), (1, .int x1), (0, .ref 112)]) (h' := h2) rfl rfl rfl rfl rfl).trans (kI_cg fun x5 h4 => ?_)
  refine (es_st 3 (pc' := 30) (L' := [(3, .int x5), (2, .int x3), (1, .int x1), (0, .ref 112)]) (S' := [.int (0 : Int32), .ref 112]) (h' := h4) rfl).trans ?_
  refine (es_cI (b := true) (k' := 158) (pc' := 33) (as := [.ref 112, .int (0 : Int32)]) (S' := []) (L' := [(3, .int x5), (2, .int x3), (1, .int x1), (0, .ref 112)]) (h' := h4) rfl rfl rfl rfl rfl).trans (kI_cg fun x7 h6 => ?_)
  refine (es_st 3 (pc' := 38) (L' := [(5, .int (0 : Int32)), (4, .int x7), (3, .int x5), (2, .int x3), (1, .int x1), (0, .ref 112)]) (S' := []) (h' := h6) rfl).trans ?_
  exact es_cut rfl rfl rfl
theorem sX8_pick_38 (B : Bool) (d : Nat) (hd : 4 ≤ d) (h : SG) (x0_1 : Int32) (x0_2 : Int32) (x0_3 : Int32) (x0_4 : Int32) (x0_5 : Int32) : evS B d 160 38 [(0, .ref 112), (1, .int x0_1), (2, .int x0_2), (3, .int x0_3), (4, .int x0_4), (5, .int x0_5)] [] h = if x0_2 ≤ x0_5 then ob (rAt h 113 x0_3) (fun x1 => ob (rAdd h 113 x1) (fun q2 => kV (mS B (d - 1) 159 [.ref 112, .int (2 : Int32), .int (1 : Int32)] q2.2) (fun h3 => some (.inl none, h3)))) else ob (rAt h 113 (x0_4 + x0_5)) (fun x4 => evS B d 160 61 [(0, .ref 112), (1, .int x0_1), (2, .int x0_2), (3, .int x0_3), (4, .int x0_4), (5, .int x0_5), (6, .int x4), (7, .int (0 : Int32))] [] h) := by
  obtain ⟨d, rfl⟩ : ∃ e, d = e + 4 := ⟨d - 4, by omega⟩
  refine (es_st 2 (pc' := 41) (L' := [(0, .ref 112), (1, .int x0_1), (2, .int x0_2), (3, .int x0_3), (4, .int x0_4), (5, .int x0_5)]) (S' := [.int x0_2, .int x0_5]) (h' := h) rfl).trans ?_
  refine (is_ge (t := 149) rfl rfl rfl).trans (if_cg ?_ ?_)
  · refine (es_st 5 (pc' := 158) (L' := [(0, .ref 112), (1, .int x0_1), (2, .int x0_2), (3, .int x0_3), (4, .int x0_4), (5, .int x0_5)]) (S' := [.int x0_3, .ref 113, .ref 113]) (h' := h) rfl).trans ?_
    refine (es_ob (o := rAt h 113 x0_3) (pc' := 161) (L' := [(0, .ref 112), (1, .int x0_1), (2, .int x0_2), (3, .int x0_3), (4, .int x0_4), (5, .int x0_5)]) (S' := fun z => [.int z, .ref 113]) (h' := fun z => h) rfl rfl rfl).trans (ob_cg fun x1 => ?_)
    refine (es_ob (o := rAdd h 113 x1) (pc' := 164) (L' := [(0, .ref 112), (1, .int x0_1), (2, .int x0_2), (3, .int x0_3), (4, .int x0_4), (5, .int x0_5)]) (S' := fun z => [.int z.1]) (h' := fun z => z.2) rfl rfl rfl).trans (ob_cg fun q2 => ?_)
    refine (es_st 4 (pc' := 168) (L' := [(0, .ref 112), (1, .int x0_1), (2, .int x0_2), (3, .int x0_3), (4, .int x0_4), (5, .int x0_5)]) (S' := [.int (1 : Int32), .int (2 : Int32), .ref 112]) (h' := q2.2) rfl).trans ?_
    refine (es_cV (b := true) (k' := 159) (pc' := 171) (as := [.ref 112, .int (2 : Int32), .int (1 : Int32)]) (S' := []) (L' := [(0, .ref 112), (1, .int x0_1), (2, .int x0_2), (3, .int x0_3), (4, .int x0_4), (5, .int x0_5)]) (h' := q2.2) rfl rfl rfl rfl rfl).trans (kV_cg fun h3 => ?_)
    exact es_fin rfl rfl rfl
  · refine (es_st 5 (pc' := 53) (L' := [(0, .ref 112), (1, .int x0_1), (2, .int x0_2), (3, .int x0_3), (4, .int x0_4), (5, .int x0_5)]) (S' := [.int (x0_4 + x0_5), .ref 113]) (h' := h) rfl).trans ?_
    refine (es_ob (o := rAt h 113 (x0_4 + x0_5)) (pc' := 56) (L' := [(0, .ref 112), (1, .int x0_1), (2, .int x0_2), (3, .int x0_3), (4, .int x0_4), (5, .int x0_5)]) (S' := fun z => [.int z]) (h' := fun z => h) rfl rfl rfl).trans (ob_cg fun x4 => ?_)
    refine (es_st 3 (pc' := 61) (L' := [(7, .int (0 : Int32)), (6, .int x4), (0, .ref 112), (1, .int x0_1), (2, .int x0_2), (3, .int x0_3), (4, .int x0_4), (5, .int x0_5)]) (S' := []) (h' := h) rfl).trans ?_
    exact es_cut rfl rfl rfl
theorem sX8_pick_61 (B : Bool) (d : Nat) (hd : 4 ≤ d) (h : SG) (x0_1 : Int32) (x0_2 : Int32) (x0_3 : Int32) (x0_4 : Int32) (x0_5 : Int32) (x0_6 : Int32) (x0_7 : Int32) : evS B d 160 61 [(0, .ref 112), (1, .int x0_1), (2, .int x0_2), (3, .int x0_3), (4, .int x0_4), (5, .int x0_5), (6, .int x0_6), (7, .int x0_7)] [] h = if x0_1 ≤ ((2 : Int32) * x0_7) then evS B d 160 38 [(0, .ref 112), (1, .int ((x0_1 + (1 : Int32)) / (2 : Int32))), (2, .int x0_2), (3, .int x0_3), (4, .int x0_4), (5, .int (x0_5 + (1 : Int32)))] [] h else if x0_1 ≤ (((2 : Int32) * x0_7) + (1 : Int32)) then ob (rAt h 113 (x0_3 + ((2 : Int32) * x0_7))) (fun x1 => kI (mS B (d - 1) 147 [.ref 107, .int x0_6, .int (0 : Int32), .int x1] h) (fun x3 h2 => ob (rSet h2 113 (x0_3 + x0_7) x3) (fun h4 => evS B d 160 61 [(0, .ref 112), (1, .int x0_1), (2, .int x0_2), (3, .int x0_3), (4, .int x0_4), (5, .int x0_5), (6, .int x0_6), (7, .int (x0_7 + (1 : Int32)))] [] h4))) else ob (rAt h 113 ((x0_3 + ((2 : Int32) * x0_7)) + (1 : Int32))) (fun x5 => ob (rAt h 113 (x0_3 + ((2 : Int32) * x0_7))) (fun x6 => kI (mS B (d - 1) 147 [.ref 107, .int x0_6, .int x5, .int x6] h) (fun x8 h7 => ob (rSet h7 113 (x0_3 + x0_7) x8) (fun h9 => evS B d 160 61 [(0, .ref 112), (1, .int x0_1), (2, .int x0_2), (3, .int x0_3), (4, .int x0_4), (5, .int x0_5), (6, .int x0_6), (7, .int (x0_7 + (1 : Int32)))] [] h9)))) := by
  obtain ⟨d, rfl⟩ : ∃ e, d = e + 4 := ⟨d - 4, by omega⟩
  refine (es_st 4 (pc' := 66) (L' := [(0, .ref 112), (1, .int x0_1), (2, .int x0_2), (3, .int x0_3), (4, .int x0_4), (5, .int x0_5), (6, .int x0_6), (7, .int x0_7)]) (S' := [.int x0_1, .int ((2 : Int32) * x0_7)]) (h' := h) rfl).trans ?_
  refine (is_ge (t := 137) rfl rfl rfl).trans (if_cg ?_ ?_)
  · refine (es_st 8 (pc' := 38) (L' := [(5, .int (x0_5 + (1 : Int32))), (1, .int ((x0_1 + (1 : Int32)) / (2 : Int32))), (0, .ref 112), (2, .int x0_2), (3, .int x0_3), (4, .int x0_4), (6, .int x0_6), (7, .int x0_7)]) (S' := []) (h' := h) rfl).trans ?_
    exact es_cut rfl rfl rfl
  · refine (es_st 14 (pc' := 90) (L' := [(0, .ref 112), (1, .int x0_1), (2, .int x0_2), (3, .int x0_3), (4, .int x0_4), (5, .int x0_5), (6, .int x0_6), (7, .int x0_7)]) (S' := [.int x0_1, .int (((2 : Int32) * x0_7) + (1 : Int32)), .int x0_6, .ref 107, .int (x0_3 + x0_7), .ref 113]) (h' := h) rfl).trans ?_
    refine (is_ge (t := 111) rfl rfl rfl).trans (if_cg ?_ ?_)
    · refine (es_st 8 (pc' := 122) (L' := [(0, .ref 112), (1, .int x0_1), (2, .int x0_2), (3, .int x0_3), (4, .int x0_4), (5, .int x0_5), (6, .int x0_6), (7, .int x0_7)]) (S' := [.int (x0_3 + ((2 : Int32) * x0_7)), .ref 113, .int (0 : Int32), .int x0_6, .ref 107, .int (x0_3 + x0_7), .ref 113]) (h' := h) rfl).trans ?_
      refine (es_ob (o := rAt h 113 (x0_3 + ((2 : Int32) * x0_7))) (pc' := 125) (L' := [(0, .ref 112), (1, .int x0_1), (2, .int x0_2), (3, .int x0_3), (4, .int x0_4), (5, .int x0_5), (6, .int x0_6), (7, .int x0_7)]) (S' := fun z => [.int z, .int (0 : Int32), .int x0_6, .ref 107, .int (x0_3 + x0_7), .ref 113]) (h' := fun z => h) rfl rfl rfl).trans (ob_cg fun x1 => ?_)
      refine (es_cI (b := true) (k' := 147) (pc' := 128) (as := [.ref 107, .int x0_6, .int (0 : Int32), .int x1]) (S' := [.int (x0_3 + x0_7), .ref 113]) (L' := [(0, .ref 112), (1, .int x0_1), (2, .int x0_2), (3, .int x0_3), (4, .int x0_4), (5, .int x0_5), (6, .int x0_6), (7, .int x0_7)]) (h' := h) rfl rfl rfl rfl rfl).trans (kI_cg fun x3 h2 => ?_)
      refine (es_ob (o := rSet h2 113 (x0_3 + x0_7) x3) (pc' := 131) (L' := [(0, .ref 112), (1, .int x0_1), (2, .int x0_2), (3, .int x0_3), (4, .int x0_4), (5, .int x0_5), (6, .int x0_6), (7, .int x0_7)]) (S' := fun z => []) (h' := fun z => z) rfl rfl rfl).trans (ob_cg fun h4 => ?_)
      refine (es_st 2 (pc' := 61) (L' := [(7, .int (x0_7 + (1 : Int32))), (0, .ref 112), (1, .int x0_1), (2, .int x0_2), (3, .int x0_3), (4, .int x0_4), (5, .int x0_5), (6, .int x0_6)]) (S' := []) (h' := h4) rfl).trans ?_
      exact es_cut rfl rfl rfl
    · refine (es_st 9 (pc' := 105) (L' := [(0, .ref 112), (1, .int x0_1), (2, .int x0_2), (3, .int x0_3), (4, .int x0_4), (5, .int x0_5), (6, .int x0_6), (7, .int x0_7)]) (S' := [.int ((x0_3 + ((2 : Int32) * x0_7)) + (1 : Int32)), .ref 113, .int x0_6, .ref 107, .int (x0_3 + x0_7), .ref 113]) (h' := h) rfl).trans ?_
      refine (es_ob (o := rAt h 113 ((x0_3 + ((2 : Int32) * x0_7)) + (1 : Int32))) (pc' := 108) (L' := [(0, .ref 112), (1, .int x0_1), (2, .int x0_2), (3, .int x0_3), (4, .int x0_4), (5, .int x0_5), (6, .int x0_6), (7, .int x0_7)]) (S' := fun z => [.int z, .int x0_6, .ref 107, .int (x0_3 + x0_7), .ref 113]) (h' := fun z => h) rfl rfl rfl).trans (ob_cg fun x5 => ?_)
      refine (es_st 8 (pc' := 122) (L' := [(0, .ref 112), (1, .int x0_1), (2, .int x0_2), (3, .int x0_3), (4, .int x0_4), (5, .int x0_5), (6, .int x0_6), (7, .int x0_7)]) (S' := [.int (x0_3 + ((2 : Int32) * x0_7)), .ref 113, .int x5, .int x0_6, .ref 107, .int (x0_3 + x0_7), .ref 113]) (h' := h) rfl).trans ?_
      refine (es_ob (o := rAt h 113 (x0_3 + ((2 : Int32) * x0_7))) (pc' := 125) (L' := [(0, .ref 112), (1, .int x0_1), (2, .int x0_2), (3, .int x0_3), (4, .int x0_4), (5, .int x0_5), (6, .int x0_6), (7, .int x0_7)]) (S' := fun z => [.int z, .int x5, .int x0_6, .ref 107, .int (x0_3 + x0_7), .ref 113]) (h' := fun z => h) rfl rfl rfl).trans (ob_cg fun x6 => ?_)
      refine (es_cI (b := true) (k' := 147) (pc' := 128) (as := [.ref 107, .int x0_6, .int x5, .int x6]) (S' := [.int (x0_3 + x0_7), .ref 113]) (L' := [(0, .ref 112), (1, .int x0_1), (2, .int x0_2), (3, .int x0_3), (4, .int x0_4), (5, .int x0_5), (6, .int x0_6), (7, .int x0_7)]) (h' := h) rfl rfl rfl rfl rfl).trans (kI_cg fun x8 h7 => ?_)
      refine (es_ob (o := rSet h7 113 (x0_3 + x0_7) x8) (pc' := 131) (L' := [(0, .ref 112), (1, .int x0_1), (2, .int x0_2), (3, .int x0_3), (4, .int x0_4), (5, .int x0_5), (6, .int x0_6), (7, .int x0_7)]) (S' := fun z => []) (h' := fun z => z) rfl rfl rfl).trans (ob_cg fun h9 => ?_)
      refine (es_st 2 (pc' := 61) (L' := [(7, .int (x0_7 + (1 : Int32))), (0, .ref 112), (1, .int x0_1), (2, .int x0_2), (3, .int x0_3), (4, .int x0_4), (5, .int x0_5), (6, .int x0_6)]) (S' := []) (h' := h9) rfl).trans ?_
      exact es_cut rfl rfl rfl
theorem sX8_width_0 (B : Bool) (d : Nat) (hd : 4 ≤ d) (h : SG) : mS B d 161 [.ref 112] h = ob (rTop h 115) (fun x1 => some (.inl (some (.int x1)), h)) := by
  obtain ⟨d, rfl⟩ : ∃ e, d = e + 4 := ⟨d - 4, by omega⟩
  show evS B (d + 4) 161 0 [(0, .ref 112)] [] h = _
  refine (es_st 2 (pc' := 4) (L' := [(0, .ref 112)]) (S' := [.ref 115]) (h' := h) rfl).trans ?_
  refine (es_ob (o := rTop h 115) (pc' := 7) (L' := [(0, .ref 112)]) (S' := fun z => [.int z]) (h' := fun z => h) rfl rfl rfl).trans (ob_cg fun x1 => ?_)
  exact es_fin rfl rfl rfl
theorem sX8_unary_0 (B : Bool) (d : Nat) (hd : 4 ≤ d) (h : SG) (x0_1 : Int32) : mS B d 162 [.ref 112, .int x0_1] h = kI (mS B (d - 1) 161 [.ref 112] h) (fun x2 h1 => kI (mS B (d - 1) 158 [.ref 112, .int (0 : Int32)] h1) (fun x4 h3 => if x0_1 = (126 : Int32) then evS B d 162 20 [(0, .ref 112), (2, .int x2), (3, .int x4), (4, .int (0 : Int32))] [] h3 else if x0_1 = (45 : Int32) then evS B d 162 71 [(0, .ref 112), (2, .int x2), (3, .int x4), (4, .int (1 : Int32)), (5, .int (0 : Int32))] [] h3 else if x0_1 = (33 : Int32) then kI (mS B (d - 1) 163 [.ref 112] h3) (fun x9 h8 => kV (mS B (d - 1) 165 [.ref 112, .int (x9 ^^^ (1 : Int32))] h8) (fun h10 => some (.inl none, h10))) else if x0_1 = (124 : Int32) then kI (mS B (d - 1) 163 [.ref 112] h3) (fun x6 h5 => kV (mS B (d - 1) 165 [.ref 112, .int x6] h5) (fun h7 => some (.inl none, h7))) else if x0_1 = (38 : Int32) then evS B d 162 188 [(0, .ref 112), (1, .int x0_1), (2, .int x2), (3, .int x4), (4, .int (1 : Int32)), (5, .int (0 : Int32))] [] h3 else evS B d 162 188 [(0, .ref 112), (1, .int x0_1), (2, .int x2), (3, .int x4), (4, .int (0 : Int32)), (5, .int (0 : Int32))] [] h3)) := by
  obtain ⟨d, rfl⟩ : ∃ e, d = e + 4 := ⟨d - 4, by omega⟩
  show evS B (d + 4) 162 0 [(0, .ref 112), (1, .int x0_1)] [] h = _
  refine (es_st 1 (pc' := 1) (L' := [(0, .ref 112), (1, .int x0_1)]) (S' := [.ref 112]) (h' := h) rfl).trans ?_
  refine (es_cI (b := true) (k' := 161) (pc' := 4) (as := [.ref 112]) (S' := []) (L' := [(0, .ref 112), (1, .int x0_1)]) (h' := h) rfl rfl rfl rfl rfl).trans (kI_cg fun x2 h1 => ?_)
  refine (es_st 3 (pc' := 7) (L' := [(2, .int x2), (0, .ref 112), (1, .int x0_1)]) (S' := [.int (0 : Int32), .ref 112]) (h' := h1) rfl).trans ?_
  refine (es_cI (b := true) (k' := 158) (pc' := 10) (as := [.ref 112, .int (0 : Int32)]) (S' := []) (L' := [(2, .int x2), (0, .ref 112), (1, .int x0_1)]) (h' := h1) rfl rfl rfl rfl rfl).trans (kI_cg fun x4 h3 => ?_)
  refine (es_st 3 (pc' := 14) (L' := [(3, .int x4), (2, .int x2), (0, .ref 112), (1, .int x0_1)]) (S' := [.int (126 : Int32), .int x0_1]) (h' := h3) rfl).trans ?_
  refine (is_ne (t := 59) rfl rfl rfl).trans (if_cg ?_ ?_)
  · refine (es_st 2 (pc' := 20) (L' := [(4, .int (0 : Int32)), (3, .int x4), (2, .int x2), (0, .ref 112), (1, .int x0_1)]) (S' := []) (h' := h3) rfl).trans ?_
    exact es_cut rfl rfl rfl
  · refine (es_st 2 (pc' := 62) (L' := [(3, .int x4), (2, .int x2), (0, .ref 112), (1, .int x0_1)]) (S' := [.int (45 : Int32), .int x0_1]) (h' := h3) rfl).trans ?_
    refine (is_ne (t := 136) rfl rfl rfl).trans (if_cg ?_ ?_)
    · refine (es_st 4 (pc' := 71) (L' := [(5, .int (0 : Int32)), (4, .int (1 : Int32)), (3, .int x4), (2, .int x2), (0, .ref 112), (1, .int x0_1)]) (S' := []) (h' := h3) rfl).trans ?_
      exact es_cut rfl rfl rfl
    · refine (es_st 2 (pc' := 139) (L' := [(3, .int x4), (2, .int x2), (0, .ref 112), (1, .int x0_1)]) (S' := [.int (33 : Int32), .int x0_1]) (h' := h3) rfl).trans ?_
      refine (is_ne (t := 155) rfl rfl rfl).trans (if_cg ?_ ?_)
      · refine (es_st 2 (pc' := 144) (L' := [(3, .int x4), (2, .int x2), (0, .ref 112), (1, .int x0_1)]) (S' := [.ref 112, .ref 112]) (h' := h3) rfl).trans ?_
        refine (es_cI (b := true) (k' := 163) (pc' := 147) (as := [.ref 112]) (S' := [.ref 112]) (L' := [(3, .int x4), (2, .int x2), (0, .ref 112), (1, .int x0_1)]) (h' := h3) rfl rfl rfl rfl rfl).trans (kI_cg fun x9 h8 => ?_)
        refine (es_st 2 (pc' := 149) (L' := [(3, .int x4), (2, .int x2), (0, .ref 112), (1, .int x0_1)]) (S' := [.int (x9 ^^^ (1 : Int32)), .ref 112]) (h' := h8) rfl).trans ?_
        refine (es_cV (b := true) (k' := 165) (pc' := 152) (as := [.ref 112, .int (x9 ^^^ (1 : Int32))]) (S' := []) (L' := [(3, .int x4), (2, .int x2), (0, .ref 112), (1, .int x0_1)]) (h' := h8) rfl rfl rfl rfl rfl).trans (kV_cg fun h10 => ?_)
        refine (es_st 1 (pc' := 261) (L' := [(3, .int x4), (2, .int x2), (0, .ref 112), (1, .int x0_1)]) (S' := []) (h' := h10) rfl).trans ?_
        exact es_fin rfl rfl rfl
      · refine (es_st 2 (pc' := 158) (L' := [(3, .int x4), (2, .int x2), (0, .ref 112), (1, .int x0_1)]) (S' := [.int (124 : Int32), .int x0_1]) (h' := h3) rfl).trans ?_
        refine (is_ne (t := 172) rfl rfl rfl).trans (if_cg ?_ ?_)
        · refine (es_st 2 (pc' := 163) (L' := [(3, .int x4), (2, .int x2), (0, .ref 112), (1, .int x0_1)]) (S' := [.ref 112, .ref 112]) (h' := h3) rfl).trans ?_
          refine (es_cI (b := true) (k' := 163) (pc' := 166) (as := [.ref 112]) (S' := [.ref 112]) (L' := [(3, .int x4), (2, .int x2), (0, .ref 112), (1, .int x0_1)]) (h' := h3) rfl rfl rfl rfl rfl).trans (kI_cg fun x6 h5 => ?_)
          refine (es_cV (b := true) (k' := 165) (pc' := 169) (as := [.ref 112, .int x6]) (S' := []) (L' := [(3, .int x4), (2, .int x2), (0, .ref 112), (1, .int x0_1)]) (h' := h5) rfl rfl rfl rfl rfl).trans (kV_cg fun h7 => ?_)
          refine (es_st 1 (pc' := 261) (L' := [(3, .int x4), (2, .int x2), (0, .ref 112), (1, .int x0_1)]) (S' := []) (h' := h7) rfl).trans ?_
          exact es_fin rfl rfl rfl
        · refine (es_st 2 (pc' := 175) (L' := [(3, .int x4), (2, .int x2), (0, .ref 112), (1, .int x0_1)]) (S' := [.int (38 : Int32), .int x0_1]) (h' := h3) rfl).trans ?_
          refine (is_ne (t := 182) rfl rfl rfl).trans (if_cg ?_ ?_)
          · refine (es_st 5 (pc' := 188) (L' := [(5, .int (0 : Int32)), (4, .int (1 : Int32)), (3, .int x4), (2, .int x2), (0, .ref 112), (1, .int x0_1)]) (S' := []) (h' := h3) rfl).trans ?_
            exact es_cut rfl rfl rfl
          · refine (es_st 4 (pc' := 188) (L' := [(5, .int (0 : Int32)), (4, .int (0 : Int32)), (3, .int x4), (2, .int x2), (0, .ref 112), (1, .int x0_1)]) (S' := []) (h' := h3) rfl).trans ?_
            exact es_cut rfl rfl rfl
theorem sX8_unary_20 (B : Bool) (d : Nat) (hd : 4 ≤ d) (h : SG) (x0_2 : Int32) (x0_3 : Int32) (x0_4 : Int32) : evS B d 162 20 [(0, .ref 112), (2, .int x0_2), (3, .int x0_3), (4, .int x0_4)] [] h = if x0_2 ≤ x0_4 then some (.inl none, h) else ob (rAt h 113 (x0_3 + x0_4)) (fun x1 => ob (rSet h 113 (x0_3 + x0_4) (x1 ^^^ (1 : Int32))) (fun h2 => evS B d 162 20 [(0, .ref 112), (2, .int x0_2), (3, .int x0_3), (4, .int (x0_4 + (1 : Int32)))] [] h2)) := by
  obtain ⟨d, rfl⟩ : ∃ e, d = e + 4 := ⟨d - 4, by omega⟩
  refine (es_st 2 (pc' := 23) (L' := [(0, .ref 112), (2, .int x0_2), (3, .int x0_3), (4, .int x0_4)]) (S' := [.int x0_2, .int x0_4]) (h' := h) rfl).trans ?_
  refine (is_ge (t := 56) rfl rfl rfl).trans (if_cg ?_ ?_)
  · refine (es_st 1 (pc' := 261) (L' := [(0, .ref 112), (2, .int x0_2), (3, .int x0_3), (4, .int x0_4)]) (S' := []) (h' := h) rfl).trans ?_
    exact es_fin rfl rfl rfl
  · refine (es_st 10 (pc' := 42) (L' := [(0, .ref 112), (2, .int x0_2), (3, .int x0_3), (4, .int x0_4)]) (S' := [.int (x0_3 + x0_4), .ref 113, .int (x0_3 + x0_4), .ref 113]) (h' := h) rfl).trans ?_
    refine (es_ob (o := rAt h 113 (x0_3 + x0_4)) (pc' := 45) (L' := [(0, .ref 112), (2, .int x0_2), (3, .int x0_3), (4, .int x0_4)]) (S' := fun z => [.int z, .int (x0_3 + x0_4), .ref 113]) (h' := fun z => h) rfl rfl rfl).trans (ob_cg fun x1 => ?_)
    refine (es_st 2 (pc' := 47) (L' := [(0, .ref 112), (2, .int x0_2), (3, .int x0_3), (4, .int x0_4)]) (S' := [.int (x1 ^^^ (1 : Int32)), .int (x0_3 + x0_4), .ref 113]) (h' := h) rfl).trans ?_
    refine (es_ob (o := rSet h 113 (x0_3 + x0_4) (x1 ^^^ (1 : Int32))) (pc' := 50) (L' := [(0, .ref 112), (2, .int x0_2), (3, .int x0_3), (4, .int x0_4)]) (S' := fun z => []) (h' := fun z => z) rfl rfl rfl).trans (ob_cg fun h2 => ?_)
    refine (es_st 2 (pc' := 20) (L' := [(4, .int (x0_4 + (1 : Int32))), (0, .ref 112), (2, .int x0_2), (3, .int x0_3)]) (S' := []) (h' := h2) rfl).trans ?_
    exact es_cut rfl rfl rfl
theorem sX8_unary_71 (B : Bool) (d : Nat) (hd : 4 ≤ d) (h : SG) (x0_2 : Int32) (x0_3 : Int32) (x0_4 : Int32) (x0_5 : Int32) : evS B d 162 71 [(0, .ref 112), (2, .int x0_2), (3, .int x0_3), (4, .int x0_4), (5, .int x0_5)] [] h = if x0_2 ≤ x0_5 then some (.inl none, h) else ob (rAt h 113 (x0_3 + x0_5)) (fun x1 => kI (mS B (d - 1) 151 [.ref 107, .int (x1 ^^^ (1 : Int32)), .int x0_4] h) (fun x3 h2 => ob (rSet h2 113 (x0_3 + x0_5) x3) (fun h4 => kI (mS B (d - 1) 148 [.ref 107, .int (x1 ^^^ (1 : Int32)), .int x0_4] h4) (fun x6 h5 => evS B d 162 71 [(0, .ref 112), (2, .int x0_2), (3, .int x0_3), (4, .int x6), (5, .int (x0_5 + (1 : Int32)))] [] h5)))) := by
  obtain ⟨d, rfl⟩ : ∃ e, d = e + 4 := ⟨d - 4, by omega⟩
  refine (es_st 2 (pc' := 74) (L' := [(0, .ref 112), (2, .int x0_2), (3, .int x0_3), (4, .int x0_4), (5, .int x0_5)]) (S' := [.int x0_2, .int x0_5]) (h' := h) rfl).trans ?_
  refine (is_ge (t := 133) rfl rfl rfl).trans (if_cg ?_ ?_)
  · refine (es_st 1 (pc' := 261) (L' := [(0, .ref 112), (2, .int x0_2), (3, .int x0_3), (4, .int x0_4), (5, .int x0_5)]) (S' := []) (h' := h) rfl).trans ?_
    exact es_fin rfl rfl rfl
  · refine (es_st 5 (pc' := 85) (L' := [(0, .ref 112), (2, .int x0_2), (3, .int x0_3), (4, .int x0_4), (5, .int x0_5)]) (S' := [.int (x0_3 + x0_5), .ref 113]) (h' := h) rfl).trans ?_
    refine (es_ob (o := rAt h 113 (x0_3 + x0_5)) (pc' := 88) (L' := [(0, .ref 112), (2, .int x0_2), (3, .int x0_3), (4, .int x0_4), (5, .int x0_5)]) (S' := fun z => [.int z]) (h' := fun z => h) rfl rfl rfl).trans (ob_cg fun x1 => ?_)
    refine (es_st 12 (pc' := 108) (L' := [(6, .int (x1 ^^^ (1 : Int32))), (0, .ref 112), (2, .int x0_2), (3, .int x0_3), (4, .int x0_4), (5, .int x0_5)]) (S' := [.int x0_4, .int (x1 ^^^ (1 : Int32)), .ref 107, .int (x0_3 + x0_5), .ref 113]) (h' := h) rfl).trans ?_
    refine (es_cI (b := true) (k' := 151) (pc' := 111) (as := [.ref 107, .int (x1 ^^^ (1 : Int32)), .int x0_4]) (S' := [.int (x0_3 + x0_5), .ref 113]) (L' := [(6, .int (x1 ^^^ (1 : Int32))), (0, .ref 112), (2, .int x0_2), (3, .int x0_3), (4, .int x0_4), (5, .int x0_5)]) (h' := h) rfl rfl rfl rfl rfl).trans (kI_cg fun x3 h2 => ?_)
    refine (es_ob (o := rSet h2 113 (x0_3 + x0_5) x3) (pc' := 114) (L' := [(6, .int (x1 ^^^ (1 : Int32))), (0, .ref 112), (2, .int x0_2), (3, .int x0_3), (4, .int x0_4), (5, .int x0_5)]) (S' := fun z => []) (h' := fun z => z) rfl rfl rfl).trans (ob_cg fun h4 => ?_)
    refine (es_st 4 (pc' := 122) (L' := [(6, .int (x1 ^^^ (1 : Int32))), (0, .ref 112), (2, .int x0_2), (3, .int x0_3), (4, .int x0_4), (5, .int x0_5)]) (S' := [.int x0_4, .int (x1 ^^^ (1 : Int32)), .ref 107]) (h' := h4) rfl).trans ?_
    refine (es_cI (b := true) (k' := 148) (pc' := 125) (as := [.ref 107, .int (x1 ^^^ (1 : Int32)), .int x0_4]) (S' := []) (L' := [(6, .int (x1 ^^^ (1 : Int32))), (0, .ref 112), (2, .int x0_2), (3, .int x0_3), (4, .int x0_4), (5, .int x0_5)]) (h' := h4) rfl rfl rfl rfl rfl).trans (kI_cg fun x6 h5 => ?_)
    refine (es_st 3 (pc' := 71) (L' := [(5, .int (x0_5 + (1 : Int32))), (4, .int x6), (6, .int (x1 ^^^ (1 : Int32))), (0, .ref 112), (2, .int x0_2), (3, .int x0_3)]) (S' := []) (h' := h5) rfl).trans ?_
    exact es_cut rfl rfl rfl
theorem sX8_unary_188 (B : Bool) (d : Nat) (hd : 4 ≤ d) (h : SG) (x0_1 : Int32) (x0_2 : Int32) (x0_3 : Int32) (x0_4 : Int32) (x0_5 : Int32) : evS B d 162 188 [(0, .ref 112), (1, .int x0_1), (2, .int x0_2), (3, .int x0_3), (4, .int x0_4), (5, .int x0_5)] [] h = if x0_2 ≤ x0_5 then kV (mS B (d - 1) 164 [.ref 112] h) (fun h1 => kV (mS B (d - 1) 165 [.ref 112, .int x0_4] h1) (fun h2 => some (.inl none, h2))) else if x0_1 = (38 : Int32) then ob (rAt h 113 (x0_3 + x0_5)) (fun x6 => kI (mS B (d - 1) 148 [.ref 107, .int x0_4, .int x6] h) (fun x8 h7 => evS B d 162 188 [(0, .ref 112), (1, .int x0_1), (2, .int x0_2), (3, .int x0_3), (4, .int x8), (5, .int (x0_5 + (1 : Int32)))] [] h7)) else ob (rAt h 113 (x0_3 + x0_5)) (fun x3 => kI (mS B (d - 1) 151 [.ref 107, .int x0_4, .int x3] h) (fun x5 h4 => evS B d 162 188 [(0, .ref 112), (1, .int x0_1), (2, .int x0_2), (3, .int x0_3), (4, .int x5), (5, .int (x0_5 + (1 : Int32)))] [] h4)) := by
  obtain ⟨d, rfl⟩ : ∃ e, d = e + 4 := ⟨d - 4, by omega⟩
  refine (es_st 2 (pc' := 191) (L' := [(0, .ref 112), (1, .int x0_1), (2, .int x0_2), (3, .int x0_3), (4, .int x0_4), (5, .int x0_5)]) (S' := [.int x0_2, .int x0_5]) (h' := h) rfl).trans ?_
  refine (is_ge (t := 251) rfl rfl rfl).trans (if_cg ?_ ?_)
  · refine (es_st 1 (pc' := 252) (L' := [(0, .ref 112), (1, .int x0_1), (2, .int x0_2), (3, .int x0_3), (4, .int x0_4), (5, .int x0_5)]) (S' := [.ref 112]) (h' := h) rfl).trans ?_
    refine (es_cV (b := true) (k' := 164) (pc' := 255) (as := [.ref 112]) (S' := []) (L' := [(0, .ref 112), (1, .int x0_1), (2, .int x0_2), (3, .int x0_3), (4, .int x0_4), (5, .int x0_5)]) (h' := h) rfl rfl rfl rfl rfl).trans (kV_cg fun h1 => ?_)
    refine (es_st 2 (pc' := 258) (L' := [(0, .ref 112), (1, .int x0_1), (2, .int x0_2), (3, .int x0_3), (4, .int x0_4), (5, .int x0_5)]) (S' := [.int x0_4, .ref 112]) (h' := h1) rfl).trans ?_
    refine (es_cV (b := true) (k' := 165) (pc' := 261) (as := [.ref 112, .int x0_4]) (S' := []) (L' := [(0, .ref 112), (1, .int x0_1), (2, .int x0_2), (3, .int x0_3), (4, .int x0_4), (5, .int x0_5)]) (h' := h1) rfl rfl rfl rfl rfl).trans (kV_cg fun h2 => ?_)
    exact es_fin rfl rfl rfl
  · refine (es_st 2 (pc' := 197) (L' := [(0, .ref 112), (1, .int x0_1), (2, .int x0_2), (3, .int x0_3), (4, .int x0_4), (5, .int x0_5)]) (S' := [.int (38 : Int32), .int x0_1]) (h' := h) rfl).trans ?_
    refine (is_ne (t := 223) rfl rfl rfl).trans (if_cg ?_ ?_)
    · refine (es_st 8 (pc' := 214) (L' := [(0, .ref 112), (1, .int x0_1), (2, .int x0_2), (3, .int x0_3), (4, .int x0_4), (5, .int x0_5)]) (S' := [.int (x0_3 + x0_5), .ref 113, .int x0_4, .ref 107]) (h' := h) rfl).trans ?_
      refine (es_ob (o := rAt h 113 (x0_3 + x0_5)) (pc' := 217) (L' := [(0, .ref 112), (1, .int x0_1), (2, .int x0_2), (3, .int x0_3), (4, .int x0_4), (5, .int x0_5)]) (S' := fun z => [.int z, .int x0_4, .ref 107]) (h' := fun z => h) rfl rfl rfl).trans (ob_cg fun x6 => ?_)
      refine (es_cI (b := true) (k' := 148) (pc' := 220) (as := [.ref 107, .int x0_4, .int x6]) (S' := []) (L' := [(0, .ref 112), (1, .int x0_1), (2, .int x0_2), (3, .int x0_3), (4, .int x0_4), (5, .int x0_5)]) (h' := h) rfl rfl rfl rfl rfl).trans (kI_cg fun x8 h7 => ?_)
      refine (es_st 4 (pc' := 188) (L' := [(5, .int (x0_5 + (1 : Int32))), (4, .int x8), (0, .ref 112), (1, .int x0_1), (2, .int x0_2), (3, .int x0_3)]) (S' := []) (h' := h7) rfl).trans ?_
      exact es_cut rfl rfl rfl
    · refine (es_st 8 (pc' := 237) (L' := [(0, .ref 112), (1, .int x0_1), (2, .int x0_2), (3, .int x0_3), (4, .int x0_4), (5, .int x0_5)]) (S' := [.int (x0_3 + x0_5), .ref 113, .int x0_4, .ref 107]) (h' := h) rfl).trans ?_
      refine (es_ob (o := rAt h 113 (x0_3 + x0_5)) (pc' := 240) (L' := [(0, .ref 112), (1, .int x0_1), (2, .int x0_2), (3, .int x0_3), (4, .int x0_4), (5, .int x0_5)]) (S' := fun z => [.int z, .int x0_4, .ref 107]) (h' := fun z => h) rfl rfl rfl).trans (ob_cg fun x3 => ?_)
      refine (es_cI (b := true) (k' := 151) (pc' := 243) (as := [.ref 107, .int x0_4, .int x3]) (S' := []) (L' := [(0, .ref 112), (1, .int x0_1), (2, .int x0_2), (3, .int x0_3), (4, .int x0_4), (5, .int x0_5)]) (h' := h) rfl rfl rfl rfl rfl).trans (kI_cg fun x5 h4 => ?_)
      refine (es_st 3 (pc' := 188) (L' := [(5, .int (x0_5 + (1 : Int32))), (4, .int x5), (0, .ref 112), (1, .int x0_1), (2, .int x0_2), (3, .int x0_3)]) (S' := []) (h' := h4) rfl).trans ?_
      exact es_cut rfl rfl rfl
theorem sX8_truth_0 (B : Bool) (d : Nat) (hd : 4 ≤ d) (h : SG) : mS B d 163 [.ref 112] h = kI (mS B (d - 1) 158 [.ref 112, .int (0 : Int32)] h) (fun x2 h1 => evS B d 163 10 [(0, .ref 112), (1, .int x2), (2, .int (0 : Int32)), (3, .int (0 : Int32))] [] h1) := by
  obtain ⟨d, rfl⟩ : ∃ e, d = e + 4 := ⟨d - 4, by omega⟩
  show evS B (d + 4) 163 0 [(0, .ref 112)] [] h = _
  refine (es_st 2 (pc' := 2) (L' := [(0, .ref 112)]) (S' := [.int (0 : Int32), .ref 112]) (h' := h) rfl).trans ?_
  refine (es_cI (b := true) (k' := 158) (pc' := 5) (as := [.ref 112, .int (0 : Int32)]) (S' := []) (L' := [(0, .ref 112)]) (h' := h) rfl rfl rfl rfl rfl).trans (kI_cg fun x2 h1 => ?_)
  refine (es_st 5 (pc' := 10) (L' := [(3, .int (0 : Int32)), (2, .int (0 : Int32)), (1, .int x2), (0, .ref 112)]) (S' := []) (h' := h1) rfl).trans ?_
  exact es_cut rfl rfl rfl
theorem sX8_truth_10 (B : Bool) (d : Nat) (hd : 4 ≤ d) (h : SG) (x0_1 : Int32) (x0_2 : Int32) (x0_3 : Int32) : evS B d 163 10 [(0, .ref 112), (1, .int x0_1), (2, .int x0_2), (3, .int x0_3)] [] h = kI (mS B (d - 1) 161 [.ref 112] h) (fun x2 h1 => if x2 ≤ x0_3 then kV (mS B (d - 1) 164 [.ref 112] h1) (fun h3 => some (.inl (some (.int x0_2)), h3)) else ob (rAt h1 113 (x0_1 + x0_3)) (fun x4 => kI (mS B (d - 1) 150 [.ref 107, .int x0_2, .int x4] h1) (fun x6 h5 => evS B d 163 10 [(0, .ref 112), (1, .int x0_1), (2, .int x6), (3, .int (x0_3 + (1 : Int32)))] [] h5))) := by
  obtain ⟨d, rfl⟩ : ∃ e, d = e + 4 := ⟨d - 4, by omega⟩
  refine (es_st 2 (pc' := 12) (L' := [(0, .ref 112), (1, .int x0_1), (2, .int x0_2), (3, .int x0_3)]) (S' := [.ref 112, .int x0_3]) (h' := h) rfl).trans ?_
  refine (es_cI (b := true) (k' := 161) (pc' := 15) (as := [.ref 112]) (S' := [.int x0_3]) (L' := [(0, .ref 112), (1, .int x0_1), (2, .int x0_2), (3, .int x0_3)]) (h' := h) rfl rfl rfl rfl rfl).trans (kI_cg fun x2 h1 => ?_)
  refine (is_ge (t := 43) rfl rfl rfl).trans (if_cg ?_ ?_)
  · refine (es_st 1 (pc' := 44) (L' := [(0, .ref 112), (1, .int x0_1), (2, .int x0_2), (3, .int x0_3)]) (S' := [.ref 112]) (h' := h1) rfl).trans ?_
    refine (es_cV (b := true) (k' := 164) (pc' := 47) (as := [.ref 112]) (S' := []) (L' := [(0, .ref 112), (1, .int x0_1), (2, .int x0_2), (3, .int x0_3)]) (h' := h1) rfl rfl rfl rfl rfl).trans (kV_cg fun h3 => ?_)
    refine (es_st 1 (pc' := 48) (L' := [(0, .ref 112), (1, .int x0_1), (2, .int x0_2), (3, .int x0_3)]) (S' := [.int x0_2]) (h' := h3) rfl).trans ?_
    exact es_fin rfl rfl rfl
  · refine (es_st 8 (pc' := 30) (L' := [(0, .ref 112), (1, .int x0_1), (2, .int x0_2), (3, .int x0_3)]) (S' := [.int (x0_1 + x0_3), .ref 113, .int x0_2, .ref 107]) (h' := h1) rfl).trans ?_
    refine (es_ob (o := rAt h1 113 (x0_1 + x0_3)) (pc' := 33) (L' := [(0, .ref 112), (1, .int x0_1), (2, .int x0_2), (3, .int x0_3)]) (S' := fun z => [.int z, .int x0_2, .ref 107]) (h' := fun z => h1) rfl rfl rfl).trans (ob_cg fun x4 => ?_)
    refine (es_cI (b := true) (k' := 150) (pc' := 36) (as := [.ref 107, .int x0_2, .int x4]) (S' := []) (L' := [(0, .ref 112), (1, .int x0_1), (2, .int x0_2), (3, .int x0_3)]) (h' := h1) rfl rfl rfl rfl rfl).trans (kI_cg fun x6 h5 => ?_)
    refine (es_st 3 (pc' := 10) (L' := [(3, .int (x0_3 + (1 : Int32))), (2, .int x6), (0, .ref 112), (1, .int x0_1)]) (S' := []) (h' := h5) rfl).trans ?_
    exact es_cut rfl rfl rfl
theorem sX8_drop_0 (B : Bool) (d : Nat) (hd : 4 ≤ d) (h : SG) : mS B d 164 [.ref 112] h = ob (rTake h 115) (fun q1 => ob (pSz q1.2 113 ((Int32.ofNat (sW h 113).length) - q1.1)) (fun h2 => some (.inl none, h2))) := by
  obtain ⟨d, rfl⟩ : ∃ e, d = e + 4 := ⟨d - 4, by omega⟩
  show evS B (d + 4) 164 0 [(0, .ref 112)] [] h = _
  refine (es_st 6 (pc' := 12) (L' := [(0, .ref 112)]) (S' := [.ref 115, .int (Int32.ofNat (sW h 113).length), .ref 113]) (h' := h) rfl).trans ?_
  refine (es_ob (o := rTake h 115) (pc' := 15) (L' := [(0, .ref 112)]) (S' := fun z => [.int z.1, .int (Int32.ofNat (sW h 113).length), .ref 113]) (h' := fun z => z.2) rfl rfl rfl).trans (ob_cg fun q1 => ?_)
  refine (es_st 1 (pc' := 16) (L' := [(0, .ref 112)]) (S' := [.int ((Int32.ofNat (sW h 113).length) - q1.1), .ref 113]) (h' := q1.2) rfl).trans ?_
  refine (es_ob (o := pSz q1.2 113 ((Int32.ofNat (sW h 113).length) - q1.1)) (pc' := 19) (L' := [(0, .ref 112)]) (S' := fun z => []) (h' := fun z => z) rfl rfl rfl).trans (ob_cg fun h2 => ?_)
  exact es_fin rfl rfl rfl
theorem sX8_one_0 (B : Bool) (d : Nat) (hd : 4 ≤ d) (h : SG) (x0_1 : Int32) : mS B d 165 [.ref 112, .int x0_1] h = ob (rAdd h 113 x0_1) (fun q1 => ob (rAdd q1.2 115 (1 : Int32)) (fun q2 => some (.inl none, q2.2))) := by
  obtain ⟨d, rfl⟩ : ∃ e, d = e + 4 := ⟨d - 4, by omega⟩
  show evS B (d + 4) 165 0 [(0, .ref 112), (1, .int x0_1)] [] h = _
  refine (es_st 3 (pc' := 5) (L' := [(0, .ref 112), (1, .int x0_1)]) (S' := [.int x0_1, .ref 113]) (h' := h) rfl).trans ?_
  refine (es_ob (o := rAdd h 113 x0_1) (pc' := 8) (L' := [(0, .ref 112), (1, .int x0_1)]) (S' := fun z => [.int z.1]) (h' := fun z => z.2) rfl rfl rfl).trans (ob_cg fun q1 => ?_)
  refine (es_st 4 (pc' := 14) (L' := [(0, .ref 112), (1, .int x0_1)]) (S' := [.int (1 : Int32), .ref 115]) (h' := q1.2) rfl).trans ?_
  refine (es_ob (o := rAdd q1.2 115 (1 : Int32)) (pc' := 17) (L' := [(0, .ref 112), (1, .int x0_1)]) (S' := fun z => [.int z.1]) (h' := fun z => z.2) rfl rfl rfl).trans (ob_cg fun q2 => ?_)
  refine (es_st 1 (pc' := 18) (L' := [(0, .ref 112), (1, .int x0_1)]) (S' := []) (h' := q2.2) rfl).trans ?_
  exact es_fin rfl rfl rfl
theorem sX8_binary_0 (B : Bool) (d : Nat) (hd : 4 ≤ d) (h : SG) (x0_1 : Int32) : mS B d 166 [.ref 112, .int x0_1] h = kI (mS B (d - 1) 161 [.ref 112] h) (fun x2 h1 => if x0_1 = (42 : Int32) then kV (mS B (d - 1) 172 [.ref 112] h1) (fun h3 => some (.inl none, h3)) else if x0_1 = (43 : Int32) then evS B d 166 219 [(0, .ref 112), (1, .int x0_1), (2, .int x2)] [] h1 else if x0_1 = (45 : Int32) then evS B d 166 219 [(0, .ref 112), (1, .int x0_1), (2, .int x2)] [] h1 else if x0_1 = (60 : Int32) then kV (mS B (d - 1) 169 [.ref 112, .int x0_1] h1) (fun h4 => some (.inl none, h4)) else if x0_1 = (62 : Int32) then kV (mS B (d - 1) 169 [.ref 112, .int x0_1] h1) (fun h5 => some (.inl none, h5)) else if x0_1 = (260 : Int32) then evS B d 166 120 [(0, .ref 112), (1, .int x0_1)] [] h1 else if x0_1 = (261 : Int32) then evS B d 166 120 [(0, .ref 112), (1, .int x0_1)] [] h1 else if x0_1 = (262 : Int32) then evS B d 166 168 [(0, .ref 112), (1, .int x0_1)] [] h1 else if x0_1 = (263 : Int32) then evS B d 166 168 [(0, .ref 112), (1, .int x0_1)] [] h1 else if x0_1 = (264 : Int32) then kV (mS B (d - 1) 169 [.ref 112, .int x0_1] h1) (fun h6 => some (.inl none, h6)) else if x0_1 = (265 : Int32) then kV (mS B (d - 1) 169 [.ref 112, .int x0_1] h1) (fun h7 => some (.inl none, h7)) else if x0_1 = (266 : Int32) then evS B d 166 200 [(0, .ref 112), (1, .int x0_1)] [] h1 else if x0_1 = (267 : Int32) then evS B d 166 200 [(0, .ref 112), (1, .int x0_1)] [] h1 else kI (mS B (d - 1) 158 [.ref 112, .int (1 : Int32)] h1) (fun x9 h8 => kI (mS B (d - 1) 158 [.ref 112, .int (0 : Int32)] h8) (fun x11 h10 => evS B d 166 267 [(0, .ref 112), (1, .int x0_1), (2, .int x2), (3, .int x9), (4, .int x11), (5, .int (0 : Int32))] [] h10))) := by
  obtain ⟨d, rfl⟩ : ∃ e, d = e + 4 := ⟨d - 4, by omega⟩
  show evS B (d + 4) 166 0 [(0, .ref 112), (1, .int x0_1)] [] h = _
  refine (es_st 1 (pc' := 1) (L' := [(0, .ref 112), (1, .int x0_1)]) (S' := [.ref 112]) (h' := h) rfl).trans ?_
  refine (es_cI (b := true) (k' := 161) (pc' := 4) (as := [.ref 112]) (S' := []) (L' := [(0, .ref 112), (1, .int x0_1)]) (h' := h) rfl rfl rfl rfl rfl).trans (kI_cg fun x2 h1 => ?_)
  refine (es_st 2 (pc' := 6) (L' := [(2, .int x2), (0, .ref 112), (1, .int x0_1)]) (S' := [.int x0_1]) (h' := h1) rfl).trans ?_
  refine (es_sw (a := x0_1) (cs := [((42 : Int32), 244), ((43 : Int32), 219), ((45 : Int32), 219), ((60 : Int32), 192), ((62 : Int32), 192), ((260 : Int32), 120), ((261 : Int32), 120), ((262 : Int32), 168), ((263 : Int32), 168), ((264 : Int32), 192), ((265 : Int32), 192), ((266 : Int32), 200), ((267 : Int32), 200)]) (df := 251) (L' := [(2, .int x2), (0, .ref 112), (1, .int x0_1)]) (S' := []) rfl rfl rfl).trans ?_
  refine ss_cons.trans (if_cg ?_ ?_)
  · refine (es_st 1 (pc' := 245) (L' := [(2, .int x2), (0, .ref 112), (1, .int x0_1)]) (S' := [.ref 112]) (h' := h1) rfl).trans ?_
    refine (es_cV (b := true) (k' := 172) (pc' := 248) (as := [.ref 112]) (S' := []) (L' := [(2, .int x2), (0, .ref 112), (1, .int x0_1)]) (h' := h1) rfl rfl rfl rfl rfl).trans (kV_cg fun h3 => ?_)
    refine (es_st 1 (pc' := 404) (L' := [(2, .int x2), (0, .ref 112), (1, .int x0_1)]) (S' := []) (h' := h3) rfl).trans ?_
    exact es_fin rfl rfl rfl
  · refine ss_cons.trans (if_cg ?_ ?_)
    · exact es_cut rfl rfl rfl
    · refine ss_cons.trans (if_cg ?_ ?_)
      · exact es_cut rfl rfl rfl
      · refine ss_cons.trans (if_cg ?_ ?_)
        · refine (es_st 2 (pc' := 194) (L' := [(2, .int x2), (0, .ref 112), (1, .int x0_1)]) (S' := [.int x0_1, .ref 112]) (h' := h1) rfl).trans ?_
          refine (es_cV (b := true) (k' := 169) (pc' := 197) (as := [.ref 112, .int x0_1]) (S' := []) (L' := [(2, .int x2), (0, .ref 112), (1, .int x0_1)]) (h' := h1) rfl rfl rfl rfl rfl).trans (kV_cg fun h4 => ?_)
          refine (es_st 1 (pc' := 404) (L' := [(2, .int x2), (0, .ref 112), (1, .int x0_1)]) (S' := []) (h' := h4) rfl).trans ?_
          exact es_fin rfl rfl rfl
        · refine ss_cons.trans (if_cg ?_ ?_)
          · refine (es_st 2 (pc' := 194) (L' := [(2, .int x2), (0, .ref 112), (1, .int x0_1)]) (S' := [.int x0_1, .ref 112]) (h' := h1) rfl).trans ?_
            refine (es_cV (b := true) (k' := 169) (pc' := 197) (as := [.ref 112, .int x0_1]) (S' := []) (L' := [(2, .int x2), (0, .ref 112), (1, .int x0_1)]) (h' := h1) rfl rfl rfl rfl rfl).trans (kV_cg fun h5 => ?_)
            refine (es_st 1 (pc' := 404) (L' := [(2, .int x2), (0, .ref 112), (1, .int x0_1)]) (S' := []) (h' := h5) rfl).trans ?_
            exact es_fin rfl rfl rfl
          · refine ss_cons.trans (if_cg ?_ ?_)
            · exact es_cut rfl rfl rfl
            · refine ss_cons.trans (if_cg ?_ ?_)
              · exact es_cut rfl rfl rfl
              · refine ss_cons.trans (if_cg ?_ ?_)
                · exact es_cut rfl rfl rfl
                · refine ss_cons.trans (if_cg ?_ ?_)
                  · exact es_cut rfl rfl rfl
                  · refine ss_cons.trans (if_cg ?_ ?_)
                    · refine (es_st 2 (pc' := 194) (L' := [(2, .int x2), (0, .ref 112), (1, .int x0_1)]) (S' := [.int x0_1, .ref 112]) (h' := h1) rfl).trans ?_
                      refine (es_cV (b := true) (k' := 169) (pc' := 197) (as := [.ref 112, .int x0_1]) (S' := []) (L' := [(2, .int x2), (0, .ref 112), (1, .int x0_1)]) (h' := h1) rfl rfl rfl rfl rfl).trans (kV_cg fun h6 => ?_)
                      refine (es_st 1 (pc' := 404) (L' := [(2, .int x2), (0, .ref 112), (1, .int x0_1)]) (S' := []) (h' := h6) rfl).trans ?_
                      exact es_fin rfl rfl rfl
                    · refine ss_cons.trans (if_cg ?_ ?_)
                      · refine (es_st 2 (pc' := 194) (L' := [(2, .int x2), (0, .ref 112), (1, .int x0_1)]) (S' := [.int x0_1, .ref 112]) (h' := h1) rfl).trans ?_
                        refine (es_cV (b := true) (k' := 169) (pc' := 197) (as := [.ref 112, .int x0_1]) (S' := []) (L' := [(2, .int x2), (0, .ref 112), (1, .int x0_1)]) (h' := h1) rfl rfl rfl rfl rfl).trans (kV_cg fun h7 => ?_)
                        refine (es_st 1 (pc' := 404) (L' := [(2, .int x2), (0, .ref 112), (1, .int x0_1)]) (S' := []) (h' := h7) rfl).trans ?_
                        exact es_fin rfl rfl rfl
                      · refine ss_cons.trans (if_cg ?_ ?_)
                        · exact es_cut rfl rfl rfl
                        · refine ss_cons.trans (if_cg ?_ ?_)
                          · exact es_cut rfl rfl rfl
                          · refine (es_st 2 (pc' := 253) (L' := [(2, .int x2), (0, .ref 112), (1, .int x0_1)]) (S' := [.int (1 : Int32), .ref 112]) (h' := h1) rfl).trans ?_
                            refine (es_cI (b := true) (k' := 158) (pc' := 256) (as := [.ref 112, .int (1 : Int32)]) (S' := []) (L' := [(2, .int x2), (0, .ref 112), (1, .int x0_1)]) (h' := h1) rfl rfl rfl rfl rfl).trans (kI_cg fun x9 h8 => ?_)
                            refine (es_st 3 (pc' := 259) (L' := [(3, .int x9), (2, .int x2), (0, .ref 112), (1, .int x0_1)]) (S' := [.int (0 : Int32), .ref 112]) (h' := h8) rfl).trans ?_
                            refine (es_cI (b := true) (k' := 158) (pc' := 262) (as := [.ref 112, .int (0 : Int32)]) (S' := []) (L' := [(3, .int x9), (2, .int x2), (0, .ref 112), (1, .int x0_1)]) (h' := h8) rfl rfl rfl rfl rfl).trans (kI_cg fun x11 h10 => ?_)
                            refine (es_st 3 (pc' := 267) (L' := [(5, .int (0 : Int32)), (4, .int x11), (3, .int x9), (2, .int x2), (0, .ref 112), (1, .int x0_1)]) (S' := []) (h' := h10) rfl).trans ?_
                            exact es_cut rfl rfl rfl
theorem sX8_binary_120 (B : Bool) (d : Nat) (hd : 4 ≤ d) (h : SG) (x0_1 : Int32) : evS B d 166 120 [(0, .ref 112), (1, .int x0_1)] [] h = kI (mS B (d - 1) 163 [.ref 112] h) (fun x2 h1 => kI (mS B (d - 1) 163 [.ref 112] h1) (fun x4 h3 => if x0_1 = (261 : Int32) then kI (mS B (d - 1) 150 [.ref 107, .int x4, .int x2] h3) (fun x9 h8 => kV (mS B (d - 1) 165 [.ref 112, .int x9] h8) (fun h10 => some (.inl none, h10))) else kI (mS B (d - 1) 148 [.ref 107, .int x4, .int x2] h3) (fun x6 h5 => kV (mS B (d - 1) 165 [.ref 112, .int x6] h5) (fun h7 => some (.inl none, h7))))) := by
  obtain ⟨d, rfl⟩ : ∃ e, d = e + 4 := ⟨d - 4, by omega⟩
  refine (es_st 1 (pc' := 121) (L' := [(0, .ref 112), (1, .int x0_1)]) (S' := [.ref 112]) (h' := h) rfl).trans ?_
  refine (es_cI (b := true) (k' := 163) (pc' := 124) (as := [.ref 112]) (S' := []) (L' := [(0, .ref 112), (1, .int x0_1)]) (h' := h) rfl rfl rfl rfl rfl).trans (kI_cg fun x2 h1 => ?_)
  refine (es_st 2 (pc' := 126) (L' := [(3, .int x2), (0, .ref 112), (1, .int x0_1)]) (S' := [.ref 112]) (h' := h1) rfl).trans ?_
  refine (es_cI (b := true) (k' := 163) (pc' := 129) (as := [.ref 112]) (S' := []) (L' := [(3, .int x2), (0, .ref 112), (1, .int x0_1)]) (h' := h1) rfl rfl rfl rfl rfl).trans (kI_cg fun x4 h3 => ?_)
  refine (es_st 4 (pc' := 136) (L' := [(4, .int x4), (3, .int x2), (0, .ref 112), (1, .int x0_1)]) (S' := [.int (261 : Int32), .int x0_1, .ref 112]) (h' := h3) rfl).trans ?_
  refine (is_ne (t := 152) rfl rfl rfl).trans (if_cg ?_ ?_)
  · refine (es_st 4 (pc' := 146) (L' := [(4, .int x4), (3, .int x2), (0, .ref 112), (1, .int x0_1)]) (S' := [.int x2, .int x4, .ref 107, .ref 112]) (h' := h3) rfl).trans ?_
    refine (es_cI (b := true) (k' := 150) (pc' := 149) (as := [.ref 107, .int x4, .int x2]) (S' := [.ref 112]) (L' := [(4, .int x4), (3, .int x2), (0, .ref 112), (1, .int x0_1)]) (h' := h3) rfl rfl rfl rfl rfl).trans (kI_cg fun x9 h8 => ?_)
    refine (es_st 1 (pc' := 162) (L' := [(4, .int x4), (3, .int x2), (0, .ref 112), (1, .int x0_1)]) (S' := [.int x9, .ref 112]) (h' := h8) rfl).trans ?_
    refine (es_cV (b := true) (k' := 165) (pc' := 165) (as := [.ref 112, .int x9]) (S' := []) (L' := [(4, .int x4), (3, .int x2), (0, .ref 112), (1, .int x0_1)]) (h' := h8) rfl rfl rfl rfl rfl).trans (kV_cg fun h10 => ?_)
    refine (es_st 1 (pc' := 404) (L' := [(4, .int x4), (3, .int x2), (0, .ref 112), (1, .int x0_1)]) (S' := []) (h' := h10) rfl).trans ?_
    exact es_fin rfl rfl rfl
  · refine (es_st 4 (pc' := 159) (L' := [(4, .int x4), (3, .int x2), (0, .ref 112), (1, .int x0_1)]) (S' := [.int x2, .int x4, .ref 107, .ref 112]) (h' := h3) rfl).trans ?_
    refine (es_cI (b := true) (k' := 148) (pc' := 162) (as := [.ref 107, .int x4, .int x2]) (S' := [.ref 112]) (L' := [(4, .int x4), (3, .int x2), (0, .ref 112), (1, .int x0_1)]) (h' := h3) rfl rfl rfl rfl rfl).trans (kI_cg fun x6 h5 => ?_)
    refine (es_cV (b := true) (k' := 165) (pc' := 165) (as := [.ref 112, .int x6]) (S' := []) (L' := [(4, .int x4), (3, .int x2), (0, .ref 112), (1, .int x0_1)]) (h' := h5) rfl rfl rfl rfl rfl).trans (kV_cg fun h7 => ?_)
    refine (es_st 1 (pc' := 404) (L' := [(4, .int x4), (3, .int x2), (0, .ref 112), (1, .int x0_1)]) (S' := []) (h' := h7) rfl).trans ?_
    exact es_fin rfl rfl rfl
theorem sX8_binary_168 (B : Bool) (d : Nat) (hd : 4 ≤ d) (h : SG) (x0_1 : Int32) : evS B d 166 168 [(0, .ref 112), (1, .int x0_1)] [] h = kI (mS B (d - 1) 167 [.ref 112] h) (fun x2 h1 => if x0_1 = (262 : Int32) then kV (mS B (d - 1) 168 [.ref 112, .int (x2 ^^^ (0 : Int32))] h1) (fun h4 => some (.inl none, h4)) else kV (mS B (d - 1) 168 [.ref 112, .int (x2 ^^^ (1 : Int32))] h1) (fun h3 => some (.inl none, h3))) := by
  obtain ⟨d, rfl⟩ : ∃ e, d = e + 4 := ⟨d - 4, by omega⟩
  refine (es_st 2 (pc' := 170) (L' := [(0, .ref 112), (1, .int x0_1)]) (S' := [.ref 112, .ref 112]) (h' := h) rfl).trans ?_
  refine (es_cI (b := true) (k' := 167) (pc' := 173) (as := [.ref 112]) (S' := [.ref 112]) (L' := [(0, .ref 112), (1, .int x0_1)]) (h' := h) rfl rfl rfl rfl rfl).trans (kI_cg fun x2 h1 => ?_)
  refine (es_st 2 (pc' := 177) (L' := [(0, .ref 112), (1, .int x0_1)]) (S' := [.int (262 : Int32), .int x0_1, .int x2, .ref 112]) (h' := h1) rfl).trans ?_
  refine (is_ne (t := 184) rfl rfl rfl).trans (if_cg ?_ ?_)
  · refine (es_st 3 (pc' := 186) (L' := [(0, .ref 112), (1, .int x0_1)]) (S' := [.int (x2 ^^^ (0 : Int32)), .ref 112]) (h' := h1) rfl).trans ?_
    refine (es_cV (b := true) (k' := 168) (pc' := 189) (as := [.ref 112, .int (x2 ^^^ (0 : Int32))]) (S' := []) (L' := [(0, .ref 112), (1, .int x0_1)]) (h' := h1) rfl rfl rfl rfl rfl).trans (kV_cg fun h4 => ?_)
    refine (es_st 1 (pc' := 404) (L' := [(0, .ref 112), (1, .int x0_1)]) (S' := []) (h' := h4) rfl).trans ?_
    exact es_fin rfl rfl rfl
  · refine (es_st 2 (pc' := 186) (L' := [(0, .ref 112), (1, .int x0_1)]) (S' := [.int (x2 ^^^ (1 : Int32)), .ref 112]) (h' := h1) rfl).trans ?_
    refine (es_cV (b := true) (k' := 168) (pc' := 189) (as := [.ref 112, .int (x2 ^^^ (1 : Int32))]) (S' := []) (L' := [(0, .ref 112), (1, .int x0_1)]) (h' := h1) rfl rfl rfl rfl rfl).trans (kV_cg fun h3 => ?_)
    refine (es_st 1 (pc' := 404) (L' := [(0, .ref 112), (1, .int x0_1)]) (S' := []) (h' := h3) rfl).trans ?_
    exact es_fin rfl rfl rfl
theorem sX8_binary_200 (B : Bool) (d : Nat) (hd : 4 ≤ d) (h : SG) (x0_1 : Int32) : evS B d 166 200 [(0, .ref 112), (1, .int x0_1)] [] h = if x0_1 = (266 : Int32) then kV (mS B (d - 1) 171 [.ref 112, .int (1 : Int32)] h) (fun h2 => some (.inl none, h2)) else kV (mS B (d - 1) 171 [.ref 112, .int (0 : Int32)] h) (fun h1 => some (.inl none, h1)) := by
  obtain ⟨d, rfl⟩ : ∃ e, d = e + 4 := ⟨d - 4, by omega⟩
  refine (es_st 3 (pc' := 205) (L' := [(0, .ref 112), (1, .int x0_1)]) (S' := [.int (266 : Int32), .int x0_1, .ref 112]) (h' := h) rfl).trans ?_
  refine (is_ne (t := 212) rfl rfl rfl).trans (if_cg ?_ ?_)
  · refine (es_st 2 (pc' := 213) (L' := [(0, .ref 112), (1, .int x0_1)]) (S' := [.int (1 : Int32), .ref 112]) (h' := h) rfl).trans ?_
    refine (es_cV (b := true) (k' := 171) (pc' := 216) (as := [.ref 112, .int (1 : Int32)]) (S' := []) (L' := [(0, .ref 112), (1, .int x0_1)]) (h' := h) rfl rfl rfl rfl rfl).trans (kV_cg fun h2 => ?_)
    refine (es_st 1 (pc' := 404) (L' := [(0, .ref 112), (1, .int x0_1)]) (S' := []) (h' := h2) rfl).trans ?_
    exact es_fin rfl rfl rfl
  · refine (es_st 1 (pc' := 213) (L' := [(0, .ref 112), (1, .int x0_1)]) (S' := [.int (0 : Int32), .ref 112]) (h' := h) rfl).trans ?_
    refine (es_cV (b := true) (k' := 171) (pc' := 216) (as := [.ref 112, .int (0 : Int32)]) (S' := []) (L' := [(0, .ref 112), (1, .int x0_1)]) (h' := h) rfl rfl rfl rfl rfl).trans (kV_cg fun h1 => ?_)
    refine (es_st 1 (pc' := 404) (L' := [(0, .ref 112), (1, .int x0_1)]) (S' := []) (h' := h1) rfl).trans ?_
    exact es_fin rfl rfl rfl
theorem sX8_binary_219 (B : Bool) (d : Nat) (hd : 4 ≤ d) (h : SG) (x0_1 : Int32) (x0_2 : Int32) : evS B d 166 219 [(0, .ref 112), (1, .int x0_1), (2, .int x0_2)] [] h = if x0_1 = (45 : Int32) then kI (mS B (d - 1) 170 [.ref 112, .int (1 : Int32)] h) (fun x5 h4 => kV (mS B (d - 1) 159 [.ref 112, .int (2 : Int32), .int x0_2] h4) (fun h6 => some (.inl none, h6))) else kI (mS B (d - 1) 170 [.ref 112, .int (0 : Int32)] h) (fun x2 h1 => kV (mS B (d - 1) 159 [.ref 112, .int (2 : Int32), .int x0_2] h1) (fun h3 => some (.inl none, h3))) := by
  obtain ⟨d, rfl⟩ : ∃ e, d = e + 4 := ⟨d - 4, by omega⟩
  refine (es_st 3 (pc' := 223) (L' := [(0, .ref 112), (1, .int x0_1), (2, .int x0_2)]) (S' := [.int (45 : Int32), .int x0_1, .ref 112]) (h' := h) rfl).trans ?_
  refine (is_ne (t := 230) rfl rfl rfl).trans (if_cg ?_ ?_)
  · refine (es_st 2 (pc' := 231) (L' := [(0, .ref 112), (1, .int x0_1), (2, .int x0_2)]) (S' := [.int (1 : Int32), .ref 112]) (h' := h) rfl).trans ?_
    refine (es_cI (b := true) (k' := 170) (pc' := 234) (as := [.ref 112, .int (1 : Int32)]) (S' := []) (L' := [(0, .ref 112), (1, .int x0_1), (2, .int x0_2)]) (h' := h) rfl rfl rfl rfl rfl).trans (kI_cg fun x5 h4 => ?_)
    refine (es_st 4 (pc' := 238) (L' := [(3, .int x5), (0, .ref 112), (1, .int x0_1), (2, .int x0_2)]) (S' := [.int x0_2, .int (2 : Int32), .ref 112]) (h' := h4) rfl).trans ?_
    refine (es_cV (b := true) (k' := 159) (pc' := 241) (as := [.ref 112, .int (2 : Int32), .int x0_2]) (S' := []) (L' := [(3, .int x5), (0, .ref 112), (1, .int x0_1), (2, .int x0_2)]) (h' := h4) rfl rfl rfl rfl rfl).trans (kV_cg fun h6 => ?_)
    refine (es_st 1 (pc' := 404) (L' := [(3, .int x5), (0, .ref 112), (1, .int x0_1), (2, .int x0_2)]) (S' := []) (h' := h6) rfl).trans ?_
    exact es_fin rfl rfl rfl
  · refine (es_st 1 (pc' := 231) (L' := [(0, .ref 112), (1, .int x0_1), (2, .int x0_2)]) (S' := [.int (0 : Int32), .ref 112]) (h' := h) rfl).trans ?_
    refine (es_cI (b := true) (k' := 170) (pc' := 234) (as := [.ref 112, .int (0 : Int32)]) (S' := []) (L' := [(0, .ref 112), (1, .int x0_1), (2, .int x0_2)]) (h' := h) rfl rfl rfl rfl rfl).trans (kI_cg fun x2 h1 => ?_)
    refine (es_st 4 (pc' := 238) (L' := [(3, .int x2), (0, .ref 112), (1, .int x0_1), (2, .int x0_2)]) (S' := [.int x0_2, .int (2 : Int32), .ref 112]) (h' := h1) rfl).trans ?_
    refine (es_cV (b := true) (k' := 159) (pc' := 241) (as := [.ref 112, .int (2 : Int32), .int x0_2]) (S' := []) (L' := [(3, .int x2), (0, .ref 112), (1, .int x0_1), (2, .int x0_2)]) (h' := h1) rfl rfl rfl rfl rfl).trans (kV_cg fun h3 => ?_)
    refine (es_st 1 (pc' := 404) (L' := [(3, .int x2), (0, .ref 112), (1, .int x0_1), (2, .int x0_2)]) (S' := []) (h' := h3) rfl).trans ?_
    exact es_fin rfl rfl rfl
theorem sX8_binary_267 (B : Bool) (d : Nat) (hd : 4 ≤ d) (h : SG) (x0_1 : Int32) (x0_2 : Int32) (x0_3 : Int32) (x0_4 : Int32) (x0_5 : Int32) : evS B d 166 267 [(0, .ref 112), (1, .int x0_1), (2, .int x0_2), (3, .int x0_3), (4, .int x0_4), (5, .int x0_5)] [] h = if x0_2 ≤ x0_5 then kV (mS B (d - 1) 159 [.ref 112, .int (2 : Int32), .int x0_2] h) (fun h1 => some (.inl none, h1)) else if x0_1 = (38 : Int32) then ob (rAt h 113 (x0_3 + x0_5)) (fun x12 => ob (rAt h 113 (x0_4 + x0_5)) (fun x13 => kI (mS B (d - 1) 148 [.ref 107, .int x12, .int x13] h) (fun x15 h14 => ob (rAdd h14 113 x15) (fun q16 => evS B d 166 267 [(0, .ref 112), (1, .int x0_1), (2, .int x0_2), (3, .int x0_3), (4, .int x0_4), (5, .int (x0_5 + (1 : Int32)))] [] q16.2)))) else if x0_1 = (124 : Int32) then ob (rAt h 113 (x0_3 + x0_5)) (fun x7 => ob (rAt h 113 (x0_4 + x0_5)) (fun x8 => kI (mS B (d - 1) 150 [.ref 107, .int x7, .int x8] h) (fun x10 h9 => ob (rAdd h9 113 x10) (fun q11 => evS B d 166 267 [(0, .ref 112), (1, .int x0_1), (2, .int x0_2), (3, .int x0_3), (4, .int x0_4), (5, .int (x0_5 + (1 : Int32)))] [] q11.2)))) else ob (rAt h 113 (x0_3 + x0_5)) (fun x2 => ob (rAt h 113 (x0_4 + x0_5)) (fun x3 => kI (mS B (d - 1) 151 [.ref 107, .int x2, .int x3] h) (fun x5 h4 => ob (rAdd h4 113 x5) (fun q6 => evS B d 166 267 [(0, .ref 112), (1, .int x0_1), (2, .int x0_2), (3, .int x0_3), (4, .int x0_4), (5, .int (x0_5 + (1 : Int32)))] [] q6.2)))) := by
  obtain ⟨d, rfl⟩ : ∃ e, d = e + 4 := ⟨d - 4, by omega⟩
  refine (es_st 2 (pc' := 270) (L' := [(0, .ref 112), (1, .int x0_1), (2, .int x0_2), (3, .int x0_3), (4, .int x0_4), (5, .int x0_5)]) (S' := [.int x0_2, .int x0_5]) (h' := h) rfl).trans ?_
  refine (is_ge (t := 395) rfl rfl rfl).trans (if_cg ?_ ?_)
  · refine (es_st 3 (pc' := 398) (L' := [(0, .ref 112), (1, .int x0_1), (2, .int x0_2), (3, .int x0_3), (4, .int x0_4), (5, .int x0_5)]) (S' := [.int x0_2, .int (2 : Int32), .ref 112]) (h' := h) rfl).trans ?_
    refine (es_cV (b := true) (k' := 159) (pc' := 401) (as := [.ref 112, .int (2 : Int32), .int x0_2]) (S' := []) (L' := [(0, .ref 112), (1, .int x0_1), (2, .int x0_2), (3, .int x0_3), (4, .int x0_4), (5, .int x0_5)]) (h' := h) rfl rfl rfl rfl rfl).trans (kV_cg fun h1 => ?_)
    refine (es_st 1 (pc' := 404) (L' := [(0, .ref 112), (1, .int x0_1), (2, .int x0_2), (3, .int x0_3), (4, .int x0_4), (5, .int x0_5)]) (S' := []) (h' := h1) rfl).trans ?_
    exact es_fin rfl rfl rfl
  · refine (es_st 4 (pc' := 280) (L' := [(0, .ref 112), (1, .int x0_1), (2, .int x0_2), (3, .int x0_3), (4, .int x0_4), (5, .int x0_5)]) (S' := [.int (38 : Int32), .int x0_1, .ref 113]) (h' := h) rfl).trans ?_
    refine (is_ne (t := 316) rfl rfl rfl).trans (if_cg ?_ ?_)
    · refine (es_st 7 (pc' := 295) (L' := [(0, .ref 112), (1, .int x0_1), (2, .int x0_2), (3, .int x0_3), (4, .int x0_4), (5, .int x0_5)]) (S' := [.int (x0_3 + x0_5), .ref 113, .ref 107, .ref 113]) (h' := h) rfl).trans ?_
      refine (es_ob (o := rAt h 113 (x0_3 + x0_5)) (pc' := 298) (L' := [(0, .ref 112), (1, .int x0_1), (2, .int x0_2), (3, .int x0_3), (4, .int x0_4), (5, .int x0_5)]) (S' := fun z => [.int z, .ref 107, .ref 113]) (h' := fun z => h) rfl rfl rfl).trans (ob_cg fun x12 => ?_)
      refine (es_st 5 (pc' := 307) (L' := [(0, .ref 112), (1, .int x0_1), (2, .int x0_2), (3, .int x0_3), (4, .int x0_4), (5, .int x0_5)]) (S' := [.int (x0_4 + x0_5), .ref 113, .int x12, .ref 107, .ref 113]) (h' := h) rfl).trans ?_
      refine (es_ob (o := rAt h 113 (x0_4 + x0_5)) (pc' := 310) (L' := [(0, .ref 112), (1, .int x0_1), (2, .int x0_2), (3, .int x0_3), (4, .int x0_4), (5, .int x0_5)]) (S' := fun z => [.int z, .int x12, .ref 107, .ref 113]) (h' := fun z => h) rfl rfl rfl).trans (ob_cg fun x13 => ?_)
      refine (es_cI (b := true) (k' := 148) (pc' := 313) (as := [.ref 107, .int x12, .int x13]) (S' := [.ref 113]) (L' := [(0, .ref 112), (1, .int x0_1), (2, .int x0_2), (3, .int x0_3), (4, .int x0_4), (5, .int x0_5)]) (h' := h) rfl rfl rfl rfl rfl).trans (kI_cg fun x15 h14 => ?_)
      refine (es_st 1 (pc' := 385) (L' := [(0, .ref 112), (1, .int x0_1), (2, .int x0_2), (3, .int x0_3), (4, .int x0_4), (5, .int x0_5)]) (S' := [.int x15, .ref 113]) (h' := h14) rfl).trans ?_
      refine (es_ob (o := rAdd h14 113 x15) (pc' := 388) (L' := [(0, .ref 112), (1, .int x0_1), (2, .int x0_2), (3, .int x0_3), (4, .int x0_4), (5, .int x0_5)]) (S' := fun z => [.int z.1]) (h' := fun z => z.2) rfl rfl rfl).trans (ob_cg fun q16 => ?_)
      refine (es_st 3 (pc' := 267) (L' := [(5, .int (x0_5 + (1 : Int32))), (0, .ref 112), (1, .int x0_1), (2, .int x0_2), (3, .int x0_3), (4, .int x0_4)]) (S' := []) (h' := q16.2) rfl).trans ?_
      exact es_cut rfl rfl rfl
    · refine (es_st 2 (pc' := 319) (L' := [(0, .ref 112), (1, .int x0_1), (2, .int x0_2), (3, .int x0_3), (4, .int x0_4), (5, .int x0_5)]) (S' := [.int (124 : Int32), .int x0_1, .ref 113]) (h' := h) rfl).trans ?_
      refine (is_ne (t := 355) rfl rfl rfl).trans (if_cg ?_ ?_)
      · refine (es_st 7 (pc' := 334) (L' := [(0, .ref 112), (1, .int x0_1), (2, .int x0_2), (3, .int x0_3), (4, .int x0_4), (5, .int x0_5)]) (S' := [.int (x0_3 + x0_5), .ref 113, .ref 107, .ref 113]) (h' := h) rfl).trans ?_
        refine (es_ob (o := rAt h 113 (x0_3 + x0_5)) (pc' := 337) (L' := [(0, .ref 112), (1, .int x0_1), (2, .int x0_2), (3, .int x0_3), (4, .int x0_4), (5, .int x0_5)]) (S' := fun z => [.int z, .ref 107, .ref 113]) (h' := fun z => h) rfl rfl rfl).trans (ob_cg fun x7 => ?_)
        refine (es_st 5 (pc' := 346) (L' := [(0, .ref 112), (1, .int x0_1), (2, .int x0_2), (3, .int x0_3), (4, .int x0_4), (5, .int x0_5)]) (S' := [.int (x0_4 + x0_5), .ref 113, .int x7, .ref 107, .ref 113]) (h' := h) rfl).trans ?_
        refine (es_ob (o := rAt h 113 (x0_4 + x0_5)) (pc' := 349) (L' := [(0, .ref 112), (1, .int x0_1), (2, .int x0_2), (3, .int x0_3), (4, .int x0_4), (5, .int x0_5)]) (S' := fun z => [.int z, .int x7, .ref 107, .ref 113]) (h' := fun z => h) rfl rfl rfl).trans (ob_cg fun x8 => ?_)
        refine (es_cI (b := true) (k' := 150) (pc' := 352) (as := [.ref 107, .int x7, .int x8]) (S' := [.ref 113]) (L' := [(0, .ref 112), (1, .int x0_1), (2, .int x0_2), (3, .int x0_3), (4, .int x0_4), (5, .int x0_5)]) (h' := h) rfl rfl rfl rfl rfl).trans (kI_cg fun x10 h9 => ?_)
        refine (es_st 1 (pc' := 385) (L' := [(0, .ref 112), (1, .int x0_1), (2, .int x0_2), (3, .int x0_3), (4, .int x0_4), (5, .int x0_5)]) (S' := [.int x10, .ref 113]) (h' := h9) rfl).trans ?_
        refine (es_ob (o := rAdd h9 113 x10) (pc' := 388) (L' := [(0, .ref 112), (1, .int x0_1), (2, .int x0_2), (3, .int x0_3), (4, .int x0_4), (5, .int x0_5)]) (S' := fun z => [.int z.1]) (h' := fun z => z.2) rfl rfl rfl).trans (ob_cg fun q11 => ?_)
        refine (es_st 3 (pc' := 267) (L' := [(5, .int (x0_5 + (1 : Int32))), (0, .ref 112), (1, .int x0_1), (2, .int x0_2), (3, .int x0_3), (4, .int x0_4)]) (S' := []) (h' := q11.2) rfl).trans ?_
        exact es_cut rfl rfl rfl
      · refine (es_st 7 (pc' := 367) (L' := [(0, .ref 112), (1, .int x0_1), (2, .int x0_2), (3, .int x0_3), (4, .int x0_4), (5, .int x0_5)]) (S' := [.int (x0_3 + x0_5), .ref 113, .ref 107, .ref 113]) (h' := h) rfl).trans ?_
        refine (es_ob (o := rAt h 113 (x0_3 + x0_5)) (pc' := 370) (L' := [(0, .ref 112), (1, .int x0_1), (2, .int x0_2), (3, .int x0_3), (4, .int x0_4), (5, .int x0_5)]) (S' := fun z => [.int z, .ref 107, .ref 113]) (h' := fun z => h) rfl rfl rfl).trans (ob_cg fun x2 => ?_)
        refine (es_st 5 (pc' := 379) (L' := [(0, .ref 112), (1, .int x0_1), (2, .int x0_2), (3, .int x0_3), (4, .int x0_4), (5, .int x0_5)]) (S' := [.int (x0_4 + x0_5), .ref 113, .int x2, .ref 107, .ref 113]) (h' := h) rfl).trans ?_
        refine (es_ob (o := rAt h 113 (x0_4 + x0_5)) (pc' := 382) (L' := [(0, .ref 112), (1, .int x0_1), (2, .int x0_2), (3, .int x0_3), (4, .int x0_4), (5, .int x0_5)]) (S' := fun z => [.int z, .int x2, .ref 107, .ref 113]) (h' := fun z => h) rfl rfl rfl).trans (ob_cg fun x3 => ?_)
        refine (es_cI (b := true) (k' := 151) (pc' := 385) (as := [.ref 107, .int x2, .int x3]) (S' := [.ref 113]) (L' := [(0, .ref 112), (1, .int x0_1), (2, .int x0_2), (3, .int x0_3), (4, .int x0_4), (5, .int x0_5)]) (h' := h) rfl rfl rfl rfl rfl).trans (kI_cg fun x5 h4 => ?_)
        refine (es_ob (o := rAdd h4 113 x5) (pc' := 388) (L' := [(0, .ref 112), (1, .int x0_1), (2, .int x0_2), (3, .int x0_3), (4, .int x0_4), (5, .int x0_5)]) (S' := fun z => [.int z.1]) (h' := fun z => z.2) rfl rfl rfl).trans (ob_cg fun q6 => ?_)
        refine (es_st 3 (pc' := 267) (L' := [(5, .int (x0_5 + (1 : Int32))), (0, .ref 112), (1, .int x0_1), (2, .int x0_2), (3, .int x0_3), (4, .int x0_4)]) (S' := []) (h' := q6.2) rfl).trans ?_
        exact es_cut rfl rfl rfl
theorem sX8_same_0 (B : Bool) (d : Nat) (hd : 4 ≤ d) (h : SG) : mS B d 167 [.ref 112] h = kI (mS B (d - 1) 158 [.ref 112, .int (1 : Int32)] h) (fun x2 h1 => kI (mS B (d - 1) 158 [.ref 112, .int (0 : Int32)] h1) (fun x4 h3 => evS B d 167 17 [(0, .ref 112), (1, .int x2), (2, .int x4), (3, .int (1 : Int32)), (4, .int (0 : Int32))] [] h3)) := by
  obtain ⟨d, rfl⟩ : ∃ e, d = e + 4 := ⟨d - 4, by omega⟩
  show evS B (d + 4) 167 0 [(0, .ref 112)] [] h = _
  refine (es_st 2 (pc' := 2) (L' := [(0, .ref 112)]) (S' := [.int (1 : Int32), .ref 112]) (h' := h) rfl).trans ?_
  refine (es_cI (b := true) (k' := 158) (pc' := 5) (as := [.ref 112, .int (1 : Int32)]) (S' := []) (L' := [(0, .ref 112)]) (h' := h) rfl rfl rfl rfl rfl).trans (kI_cg fun x2 h1 => ?_)
  refine (es_st 3 (pc' := 8) (L' := [(1, .int x2), (0, .ref 112)]) (S' := [.int (0 : Int32), .ref 112]) (h' := h1) rfl).trans ?_
  refine (es_cI (b := true) (k' := 158) (pc' := 11) (as := [.ref 112, .int (0 : Int32)]) (S' := []) (L' := [(1, .int x2), (0, .ref 112)]) (h' := h1) rfl rfl rfl rfl rfl).trans (kI_cg fun x4 h3 => ?_)
  refine (es_st 5 (pc' := 17) (L' := [(4, .int (0 : Int32)), (3, .int (1 : Int32)), (2, .int x4), (1, .int x2), (0, .ref 112)]) (S' := []) (h' := h3) rfl).trans ?_
  exact es_cut rfl rfl rfl
theorem sX8_same_17 (B : Bool) (d : Nat) (hd : 4 ≤ d) (h : SG) (x0_1 : Int32) (x0_2 : Int32) (x0_3 : Int32) (x0_4 : Int32) : evS B d 167 17 [(0, .ref 112), (1, .int x0_1), (2, .int x0_2), (3, .int x0_3), (4, .int x0_4)] [] h = kI (mS B (d - 1) 161 [.ref 112] h) (fun x2 h1 => if x2 ≤ x0_4 then some (.inl (some (.int x0_3)), h1) else ob (rAt h1 113 (x0_1 + x0_4)) (fun x3 => ob (rAt h1 113 (x0_2 + x0_4)) (fun x4 => kI (mS B (d - 1) 151 [.ref 107, .int x3, .int x4] h1) (fun x6 h5 => kI (mS B (d - 1) 148 [.ref 107, .int x0_3, .int (x6 ^^^ (1 : Int32))] h5) (fun x8 h7 => evS B d 167 17 [(0, .ref 112), (1, .int x0_1), (2, .int x0_2), (3, .int x8), (4, .int (x0_4 + (1 : Int32)))] [] h7))))) := by
  obtain ⟨d, rfl⟩ : ∃ e, d = e + 4 := ⟨d - 4, by omega⟩
  refine (es_st 2 (pc' := 20) (L' := [(0, .ref 112), (1, .int x0_1), (2, .int x0_2), (3, .int x0_3), (4, .int x0_4)]) (S' := [.ref 112, .int x0_4]) (h' := h) rfl).trans ?_
  refine (es_cI (b := true) (k' := 161) (pc' := 23) (as := [.ref 112]) (S' := [.int x0_4]) (L' := [(0, .ref 112), (1, .int x0_1), (2, .int x0_2), (3, .int x0_3), (4, .int x0_4)]) (h' := h) rfl rfl rfl rfl rfl).trans (kI_cg fun x2 h1 => ?_)
  refine (is_ge (t := 72) rfl rfl rfl).trans (if_cg ?_ ?_)
  · refine (es_st 1 (pc' := 73) (L' := [(0, .ref 112), (1, .int x0_1), (2, .int x0_2), (3, .int x0_3), (4, .int x0_4)]) (S' := [.int x0_3]) (h' := h1) rfl).trans ?_
    exact es_fin rfl rfl rfl
  · refine (es_st 10 (pc' := 43) (L' := [(0, .ref 112), (1, .int x0_1), (2, .int x0_2), (3, .int x0_3), (4, .int x0_4)]) (S' := [.int (x0_1 + x0_4), .ref 113, .ref 107, .int x0_3, .ref 107]) (h' := h1) rfl).trans ?_
    refine (es_ob (o := rAt h1 113 (x0_1 + x0_4)) (pc' := 46) (L' := [(0, .ref 112), (1, .int x0_1), (2, .int x0_2), (3, .int x0_3), (4, .int x0_4)]) (S' := fun z => [.int z, .ref 107, .int x0_3, .ref 107]) (h' := fun z => h1) rfl rfl rfl).trans (ob_cg fun x3 => ?_)
    refine (es_st 5 (pc' := 54) (L' := [(0, .ref 112), (1, .int x0_1), (2, .int x0_2), (3, .int x0_3), (4, .int x0_4)]) (S' := [.int (x0_2 + x0_4), .ref 113, .int x3, .ref 107, .int x0_3, .ref 107]) (h' := h1) rfl).trans ?_
    refine (es_ob (o := rAt h1 113 (x0_2 + x0_4)) (pc' := 57) (L' := [(0, .ref 112), (1, .int x0_1), (2, .int x0_2), (3, .int x0_3), (4, .int x0_4)]) (S' := fun z => [.int z, .int x3, .ref 107, .int x0_3, .ref 107]) (h' := fun z => h1) rfl rfl rfl).trans (ob_cg fun x4 => ?_)
    refine (es_cI (b := true) (k' := 151) (pc' := 60) (as := [.ref 107, .int x3, .int x4]) (S' := [.int x0_3, .ref 107]) (L' := [(0, .ref 112), (1, .int x0_1), (2, .int x0_2), (3, .int x0_3), (4, .int x0_4)]) (h' := h1) rfl rfl rfl rfl rfl).trans (kI_cg fun x6 h5 => ?_)
    refine (es_st 2 (pc' := 62) (L' := [(0, .ref 112), (1, .int x0_1), (2, .int x0_2), (3, .int x0_3), (4, .int x0_4)]) (S' := [.int (x6 ^^^ (1 : Int32)), .int x0_3, .ref 107]) (h' := h5) rfl).trans ?_
    refine (es_cI (b := true) (k' := 148) (pc' := 65) (as := [.ref 107, .int x0_3, .int (x6 ^^^ (1 : Int32))]) (S' := []) (L' := [(0, .ref 112), (1, .int x0_1), (2, .int x0_2), (3, .int x0_3), (4, .int x0_4)]) (h' := h5) rfl rfl rfl rfl rfl).trans (kI_cg fun x8 h7 => ?_)
    refine (es_st 3 (pc' := 17) (L' := [(4, .int (x0_4 + (1 : Int32))), (3, .int x8), (0, .ref 112), (1, .int x0_1), (2, .int x0_2)]) (S' := []) (h' := h7) rfl).trans ?_
    exact es_cut rfl rfl rfl
theorem sX8_answer_0 (B : Bool) (d : Nat) (hd : 4 ≤ d) (h : SG) (x0_1 : Int32) : mS B d 168 [.ref 112, .int x0_1] h = ob (rAdd h 113 x0_1) (fun q1 => kV (mS B (d - 1) 159 [.ref 112, .int (2 : Int32), .int (1 : Int32)] q1.2) (fun h2 => some (.inl none, h2))) := by
  obtain ⟨d, rfl⟩ : ∃ e, d = e + 4 := ⟨d - 4, by omega⟩
  show evS B (d + 4) 168 0 [(0, .ref 112), (1, .int x0_1)] [] h = _
  refine (es_st 3 (pc' := 5) (L' := [(0, .ref 112), (1, .int x0_1)]) (S' := [.int x0_1, .ref 113]) (h' := h) rfl).trans ?_
  refine (es_ob (o := rAdd h 113 x0_1) (pc' := 8) (L' := [(0, .ref 112), (1, .int x0_1)]) (S' := fun z => [.int z.1]) (h' := fun z => z.2) rfl rfl rfl).trans (ob_cg fun q1 => ?_)
  refine (es_st 4 (pc' := 12) (L' := [(0, .ref 112), (1, .int x0_1)]) (S' := [.int (1 : Int32), .int (2 : Int32), .ref 112]) (h' := q1.2) rfl).trans ?_
  refine (es_cV (b := true) (k' := 159) (pc' := 15) (as := [.ref 112, .int (2 : Int32), .int (1 : Int32)]) (S' := []) (L' := [(0, .ref 112), (1, .int x0_1)]) (h' := q1.2) rfl rfl rfl rfl rfl).trans (kV_cg fun h2 => ?_)
  exact es_fin rfl rfl rfl
theorem sX8_compared_0 (B : Bool) (d : Nat) (hd : 4 ≤ d) (h : SG) (x0_1 : Int32) : mS B d 169 [.ref 112, .int x0_1] h = kI (mS B (d - 1) 161 [.ref 112] h) (fun x2 h1 => if x0_1 = (62 : Int32) then if (1 : Int32) = 0 then evS B d 169 109 [(0, .ref 112), (1, .int x0_1), (2, .int x2)] [] h1 else kI (mS B (d - 1) 158 [.ref 112, .int (1 : Int32)] h1) (fun x4 h3 => kI (mS B (d - 1) 158 [.ref 112, .int (0 : Int32)] h3) (fun x6 h5 => evS B d 169 45 [(0, .ref 112), (1, .int x0_1), (2, .int x2), (4, .int x4), (5, .int x6), (6, .int (0 : Int32))] [] h5)) else if x0_1 = (264 : Int32) then if (1 : Int32) = 0 then evS B d 169 109 [(0, .ref 112), (1, .int x0_1), (2, .int x2)] [] h1 else kI (mS B (d - 1) 158 [.ref 112, .int (1 : Int32)] h1) (fun x12 h11 => kI (mS B (d - 1) 158 [.ref 112, .int (0 : Int32)] h11) (fun x14 h13 => evS B d 169 45 [(0, .ref 112), (1, .int x0_1), (2, .int x2), (4, .int x12), (5, .int x14), (6, .int (0 : Int32))] [] h13)) else if (0 : Int32) = 0 then evS B d 169 109 [(0, .ref 112), (1, .int x0_1), (2, .int x2)] [] h1 else kI (mS B (d - 1) 158 [.ref 112, .int (1 : Int32)] h1) (fun x8 h7 => kI (mS B (d - 1) 158 [.ref 112, .int (0 : Int32)] h7) (fun x10 h9 => evS B d 169 45 [(0, .ref 112), (1, .int x0_1), (2, .int x2), (4, .int x8), (5, .int x10), (6, .int (0 : Int32))] [] h9))) := by
  obtain ⟨d, rfl⟩ : ∃ e, d = e + 4 := ⟨d - 4, by omega⟩
  show evS B (d + 4) 169 0 [(0, .ref 112), (1, .int x0_1)] [] h = _
  refine (es_st 1 (pc' := 1) (L' := [(0, .ref 112), (1, .int x0_1)]) (S' := [.ref 112]) (h' := h) rfl).trans ?_
  refine (es_cI (b := true) (k' := 161) (pc' := 4) (as := [.ref 112]) (S' := []) (L' := [(0, .ref 112), (1, .int x0_1)]) (h' := h) rfl rfl rfl rfl rfl).trans (kI_cg fun x2 h1 => ?_)
  refine (es_st 3 (pc' := 8) (L' := [(2, .int x2), (0, .ref 112), (1, .int x0_1)]) (S' := [.int (62 : Int32), .int x0_1]) (h' := h1) rfl).trans ?_
  refine (is_eq (t := 18) rfl rfl rfl).trans (if_cg ?_ ?_)
  · refine (es_st 4 (pc' := 25) (L' := [(3, .int (1 : Int32)), (2, .int x2), (0, .ref 112), (1, .int x0_1)]) (S' := [.int (1 : Int32)]) (h' := h1) rfl).trans ?_
    refine (zs_eq (t := 109) rfl rfl rfl).trans (if_cg ?_ ?_)
    · exact es_cut rfl rfl rfl
    · refine (es_st 2 (pc' := 30) (L' := [(3, .int (1 : Int32)), (2, .int x2), (0, .ref 112), (1, .int x0_1)]) (S' := [.int (1 : Int32), .ref 112]) (h' := h1) rfl).trans ?_
      refine (es_cI (b := true) (k' := 158) (pc' := 33) (as := [.ref 112, .int (1 : Int32)]) (S' := []) (L' := [(3, .int (1 : Int32)), (2, .int x2), (0, .ref 112), (1, .int x0_1)]) (h' := h1) rfl rfl rfl rfl rfl).trans (kI_cg fun x4 h3 => ?_)
      refine (es_st 3 (pc' := 37) (L' := [(4, .int x4), (3, .int (1 : Int32)), (2, .int x2), (0, .ref 112), (1, .int x0_1)]) (S' := [.int (0 : Int32), .ref 112]) (h' := h3) rfl).trans ?_
      refine (es_cI (b := true) (k' := 158) (pc' := 40) (as := [.ref 112, .int (0 : Int32)]) (S' := []) (L' := [(4, .int x4), (3, .int (1 : Int32)), (2, .int x2), (0, .ref 112), (1, .int x0_1)]) (h' := h3) rfl rfl rfl rfl rfl).trans (kI_cg fun x6 h5 => ?_)
      refine (es_st 3 (pc' := 45) (L' := [(6, .int (0 : Int32)), (5, .int x6), (4, .int x4), (3, .int (1 : Int32)), (2, .int x2), (0, .ref 112), (1, .int x0_1)]) (S' := []) (h' := h5) rfl).trans ?_
      exact es_cut rfl rfl rfl
  · refine (es_st 2 (pc' := 15) (L' := [(2, .int x2), (0, .ref 112), (1, .int x0_1)]) (S' := [.int (264 : Int32), .int x0_1]) (h' := h1) rfl).trans ?_
    refine (is_ne (t := 22) rfl rfl rfl).trans (if_cg ?_ ?_)
    · refine (es_st 4 (pc' := 25) (L' := [(3, .int (1 : Int32)), (2, .int x2), (0, .ref 112), (1, .int x0_1)]) (S' := [.int (1 : Int32)]) (h' := h1) rfl).trans ?_
      refine (zs_eq (t := 109) rfl rfl rfl).trans (if_cg ?_ ?_)
      · exact es_cut rfl rfl rfl
      · refine (es_st 2 (pc' := 30) (L' := [(3, .int (1 : Int32)), (2, .int x2), (0, .ref 112), (1, .int x0_1)]) (S' := [.int (1 : Int32), .ref 112]) (h' := h1) rfl).trans ?_
        refine (es_cI (b := true) (k' := 158) (pc' := 33) (as := [.ref 112, .int (1 : Int32)]) (S' := []) (L' := [(3, .int (1 : Int32)), (2, .int x2), (0, .ref 112), (1, .int x0_1)]) (h' := h1) rfl rfl rfl rfl rfl).trans (kI_cg fun x12 h11 => ?_)
        refine (es_st 3 (pc' := 37) (L' := [(4, .int x12), (3, .int (1 : Int32)), (2, .int x2), (0, .ref 112), (1, .int x0_1)]) (S' := [.int (0 : Int32), .ref 112]) (h' := h11) rfl).trans ?_
        refine (es_cI (b := true) (k' := 158) (pc' := 40) (as := [.ref 112, .int (0 : Int32)]) (S' := []) (L' := [(4, .int x12), (3, .int (1 : Int32)), (2, .int x2), (0, .ref 112), (1, .int x0_1)]) (h' := h11) rfl rfl rfl rfl rfl).trans (kI_cg fun x14 h13 => ?_)
        refine (es_st 3 (pc' := 45) (L' := [(6, .int (0 : Int32)), (5, .int x14), (4, .int x12), (3, .int (1 : Int32)), (2, .int x2), (0, .ref 112), (1, .int x0_1)]) (S' := []) (h' := h13) rfl).trans ?_
        exact es_cut rfl rfl rfl
    · refine (es_st 3 (pc' := 25) (L' := [(3, .int (0 : Int32)), (2, .int x2), (0, .ref 112), (1, .int x0_1)]) (S' := [.int (0 : Int32)]) (h' := h1) rfl).trans ?_
      refine (zs_eq (t := 109) rfl rfl rfl).trans (if_cg ?_ ?_)
      · exact es_cut rfl rfl rfl
      · refine (es_st 2 (pc' := 30) (L' := [(3, .int (0 : Int32)), (2, .int x2), (0, .ref 112), (1, .int x0_1)]) (S' := [.int (1 : Int32), .ref 112]) (h' := h1) rfl).trans ?_
        refine (es_cI (b := true) (k' := 158) (pc' := 33) (as := [.ref 112, .int (1 : Int32)]) (S' := []) (L' := [(3, .int (0 : Int32)), (2, .int x2), (0, .ref 112), (1, .int x0_1)]) (h' := h1) rfl rfl rfl rfl rfl).trans (kI_cg fun x8 h7 => ?_)
        refine (es_st 3 (pc' := 37) (L' := [(4, .int x8), (3, .int (0 : Int32)), (2, .int x2), (0, .ref 112), (1, .int x0_1)]) (S' := [.int (0 : Int32), .ref 112]) (h' := h7) rfl).trans ?_
        refine (es_cI (b := true) (k' := 158) (pc' := 40) (as := [.ref 112, .int (0 : Int32)]) (S' := []) (L' := [(4, .int x8), (3, .int (0 : Int32)), (2, .int x2), (0, .ref 112), (1, .int x0_1)]) (h' := h7) rfl rfl rfl rfl rfl).trans (kI_cg fun x10 h9 => ?_)
        refine (es_st 3 (pc' := 45) (L' := [(6, .int (0 : Int32)), (5, .int x10), (4, .int x8), (3, .int (0 : Int32)), (2, .int x2), (0, .ref 112), (1, .int x0_1)]) (S' := []) (h' := h9) rfl).trans ?_
        exact es_cut rfl rfl rfl
theorem sX8_compared_45 (B : Bool) (d : Nat) (hd : 4 ≤ d) (h : SG) (x0_1 : Int32) (x0_2 : Int32) (x0_4 : Int32) (x0_5 : Int32) (x0_6 : Int32) : evS B d 169 45 [(0, .ref 112), (1, .int x0_1), (2, .int x0_2), (4, .int x0_4), (5, .int x0_5), (6, .int x0_6)] [] h = if x0_2 ≤ x0_6 then evS B d 169 109 [(0, .ref 112), (1, .int x0_1), (2, .int x0_2)] [] h else ob (rAt h 113 (x0_4 + x0_6)) (fun x1 => ob (rAt h 113 (x0_5 + x0_6)) (fun x2 => ob (rSet h 113 (x0_4 + x0_6) x2) (fun h3 => ob (rSet h3 113 (x0_5 + x0_6) x1) (fun h4 => evS B d 169 45 [(0, .ref 112), (1, .int x0_1), (2, .int x0_2), (4, .int x0_4), (5, .int x0_5), (6, .int (x0_6 + (1 : Int32)))] [] h4)))) := by
  obtain ⟨d, rfl⟩ : ∃ e, d = e + 4 := ⟨d - 4, by omega⟩
  refine (es_st 2 (pc' := 48) (L' := [(0, .ref 112), (1, .int x0_1), (2, .int x0_2), (4, .int x0_4), (5, .int x0_5), (6, .int x0_6)]) (S' := [.int x0_2, .int x0_6]) (h' := h) rfl).trans ?_
  refine (is_ge (t := 109) rfl rfl rfl).trans (if_cg ?_ ?_)
  · exact es_cut rfl rfl rfl
  · refine (es_st 5 (pc' := 60) (L' := [(0, .ref 112), (1, .int x0_1), (2, .int x0_2), (4, .int x0_4), (5, .int x0_5), (6, .int x0_6)]) (S' := [.int (x0_4 + x0_6), .ref 113]) (h' := h) rfl).trans ?_
    refine (es_ob (o := rAt h 113 (x0_4 + x0_6)) (pc' := 63) (L' := [(0, .ref 112), (1, .int x0_1), (2, .int x0_2), (4, .int x0_4), (5, .int x0_5), (6, .int x0_6)]) (S' := fun z => [.int z]) (h' := fun z => h) rfl rfl rfl).trans (ob_cg fun x1 => ?_)
    refine (es_st 11 (pc' := 83) (L' := [(7, .int x1), (0, .ref 112), (1, .int x0_1), (2, .int x0_2), (4, .int x0_4), (5, .int x0_5), (6, .int x0_6)]) (S' := [.int (x0_5 + x0_6), .ref 113, .int (x0_4 + x0_6), .ref 113]) (h' := h) rfl).trans ?_
    refine (es_ob (o := rAt h 113 (x0_5 + x0_6)) (pc' := 86) (L' := [(7, .int x1), (0, .ref 112), (1, .int x0_1), (2, .int x0_2), (4, .int x0_4), (5, .int x0_5), (6, .int x0_6)]) (S' := fun z => [.int z, .int (x0_4 + x0_6), .ref 113]) (h' := fun z => h) rfl rfl rfl).trans (ob_cg fun x2 => ?_)
    refine (es_ob (o := rSet h 113 (x0_4 + x0_6) x2) (pc' := 89) (L' := [(7, .int x1), (0, .ref 112), (1, .int x0_1), (2, .int x0_2), (4, .int x0_4), (5, .int x0_5), (6, .int x0_6)]) (S' := fun z => []) (h' := fun z => z) rfl rfl rfl).trans (ob_cg fun h3 => ?_)
    refine (es_st 6 (pc' := 100) (L' := [(7, .int x1), (0, .ref 112), (1, .int x0_1), (2, .int x0_2), (4, .int x0_4), (5, .int x0_5), (6, .int x0_6)]) (S' := [.int x1, .int (x0_5 + x0_6), .ref 113]) (h' := h3) rfl).trans ?_
    refine (es_ob (o := rSet h3 113 (x0_5 + x0_6) x1) (pc' := 103) (L' := [(7, .int x1), (0, .ref 112), (1, .int x0_1), (2, .int x0_2), (4, .int x0_4), (5, .int x0_5), (6, .int x0_6)]) (S' := fun z => []) (h' := fun z => z) rfl rfl rfl).trans (ob_cg fun h4 => ?_)
    refine (es_st 2 (pc' := 45) (L' := [(6, .int (x0_6 + (1 : Int32))), (7, .int x1), (0, .ref 112), (1, .int x0_1), (2, .int x0_2), (4, .int x0_4), (5, .int x0_5)]) (S' := []) (h' := h4) rfl).trans ?_
    exact es_cut rfl rfl rfl
theorem sX8_compared_109 (B : Bool) (d : Nat) (hd : 4 ≤ d) (h : SG) (x0_1 : Int32) (x0_2 : Int32) : evS B d 169 109 [(0, .ref 112), (1, .int x0_1), (2, .int x0_2)] [] h = kI (mS B (d - 1) 170 [.ref 112, .int (1 : Int32)] h) (fun x2 h1 => ob (pSz h1 113 ((Int32.ofNat (sW h1 113).length) - x0_2)) (fun h3 => if x0_1 = (60 : Int32) then kV (mS B (d - 1) 168 [.ref 112, .int (x2 ^^^ (1 : Int32))] h3) (fun h4 => some (.inl none, h4)) else if x0_1 = (62 : Int32) then kV (mS B (d - 1) 168 [.ref 112, .int (x2 ^^^ (1 : Int32))] h3) (fun h6 => some (.inl none, h6)) else kV (mS B (d - 1) 168 [.ref 112, .int x2] h3) (fun h5 => some (.inl none, h5)))) := by
  obtain ⟨d, rfl⟩ : ∃ e, d = e + 4 := ⟨d - 4, by omega⟩
  refine (es_st 2 (pc' := 111) (L' := [(0, .ref 112), (1, .int x0_1), (2, .int x0_2)]) (S' := [.int (1 : Int32), .ref 112]) (h' := h) rfl).trans ?_
  refine (es_cI (b := true) (k' := 170) (pc' := 114) (as := [.ref 112, .int (1 : Int32)]) (S' := []) (L' := [(0, .ref 112), (1, .int x0_1), (2, .int x0_2)]) (h' := h) rfl rfl rfl rfl rfl).trans (kI_cg fun x2 h1 => ?_)
  refine (es_st 7 (pc' := 126) (L' := [(4, .int x2), (0, .ref 112), (1, .int x0_1), (2, .int x0_2)]) (S' := [.int ((Int32.ofNat (sW h1 113).length) - x0_2), .ref 113]) (h' := h1) rfl).trans ?_
  refine (es_ob (o := pSz h1 113 ((Int32.ofNat (sW h1 113).length) - x0_2)) (pc' := 129) (L' := [(4, .int x2), (0, .ref 112), (1, .int x0_1), (2, .int x0_2)]) (S' := fun z => []) (h' := fun z => z) rfl rfl rfl).trans (ob_cg fun h3 => ?_)
  refine (es_st 3 (pc' := 133) (L' := [(4, .int x2), (0, .ref 112), (1, .int x0_1), (2, .int x0_2)]) (S' := [.int (60 : Int32), .int x0_1, .ref 112]) (h' := h3) rfl).trans ?_
  refine (is_eq (t := 142) rfl rfl rfl).trans (if_cg ?_ ?_)
  · refine (es_st 4 (pc' := 151) (L' := [(4, .int x2), (0, .ref 112), (1, .int x0_1), (2, .int x0_2)]) (S' := [.int (x2 ^^^ (1 : Int32)), .ref 112]) (h' := h3) rfl).trans ?_
    refine (es_cV (b := true) (k' := 168) (pc' := 154) (as := [.ref 112, .int (x2 ^^^ (1 : Int32))]) (S' := []) (L' := [(4, .int x2), (0, .ref 112), (1, .int x0_1), (2, .int x0_2)]) (h' := h3) rfl rfl rfl rfl rfl).trans (kV_cg fun h4 => ?_)
    exact es_fin rfl rfl rfl
  · refine (es_st 2 (pc' := 139) (L' := [(4, .int x2), (0, .ref 112), (1, .int x0_1), (2, .int x0_2)]) (S' := [.int (62 : Int32), .int x0_1, .ref 112]) (h' := h3) rfl).trans ?_
    refine (is_ne (t := 149) rfl rfl rfl).trans (if_cg ?_ ?_)
    · refine (es_st 4 (pc' := 151) (L' := [(4, .int x2), (0, .ref 112), (1, .int x0_1), (2, .int x0_2)]) (S' := [.int (x2 ^^^ (1 : Int32)), .ref 112]) (h' := h3) rfl).trans ?_
      refine (es_cV (b := true) (k' := 168) (pc' := 154) (as := [.ref 112, .int (x2 ^^^ (1 : Int32))]) (S' := []) (L' := [(4, .int x2), (0, .ref 112), (1, .int x0_1), (2, .int x0_2)]) (h' := h3) rfl rfl rfl rfl rfl).trans (kV_cg fun h6 => ?_)
      exact es_fin rfl rfl rfl
    · refine (es_st 1 (pc' := 151) (L' := [(4, .int x2), (0, .ref 112), (1, .int x0_1), (2, .int x0_2)]) (S' := [.int x2, .ref 112]) (h' := h3) rfl).trans ?_
      refine (es_cV (b := true) (k' := 168) (pc' := 154) (as := [.ref 112, .int x2]) (S' := []) (L' := [(4, .int x2), (0, .ref 112), (1, .int x0_1), (2, .int x0_2)]) (h' := h3) rfl rfl rfl rfl rfl).trans (kV_cg fun h5 => ?_)
      exact es_fin rfl rfl rfl
theorem sX8_sum_0 (B : Bool) (d : Nat) (hd : 4 ≤ d) (h : SG) (x0_1 : Int32) : mS B d 170 [.ref 112, .int x0_1] h = kI (mS B (d - 1) 161 [.ref 112] h) (fun x2 h1 => kI (mS B (d - 1) 158 [.ref 112, .int (1 : Int32)] h1) (fun x4 h3 => kI (mS B (d - 1) 158 [.ref 112, .int (0 : Int32)] h3) (fun x6 h5 => evS B d 170 24 [(0, .ref 112), (1, .int x0_1), (2, .int x2), (3, .int x4), (4, .int x6), (5, .int x0_1), (6, .int (0 : Int32))] [] h5))) := by
  obtain ⟨d, rfl⟩ : ∃ e, d = e + 4 := ⟨d - 4, by omega⟩
  show evS B (d + 4) 170 0 [(0, .ref 112), (1, .int x0_1)] [] h = _
  refine (es_st 1 (pc' := 1) (L' := [(0, .ref 112), (1, .int x0_1)]) (S' := [.ref 112]) (h' := h) rfl).trans ?_
  refine (es_cI (b := true) (k' := 161) (pc' := 4) (as := [.ref 112]) (S' := []) (L' := [(0, .ref 112), (1, .int x0_1)]) (h' := h) rfl rfl rfl rfl rfl).trans (kI_cg fun x2 h1 => ?_)
  refine (es_st 3 (pc' := 7) (L' := [(2, .int x2), (0, .ref 112), (1, .int x0_1)]) (S' := [.int (1 : Int32), .ref 112]) (h' := h1) rfl).trans ?_
  refine (es_cI (b := true) (k' := 158) (pc' := 10) (as := [.ref 112, .int (1 : Int32)]) (S' := []) (L' := [(2, .int x2), (0, .ref 112), (1, .int x0_1)]) (h' := h1) rfl rfl rfl rfl rfl).trans (kI_cg fun x4 h3 => ?_)
  refine (es_st 3 (pc' := 13) (L' := [(3, .int x4), (2, .int x2), (0, .ref 112), (1, .int x0_1)]) (S' := [.int (0 : Int32), .ref 112]) (h' := h3) rfl).trans ?_
  refine (es_cI (b := true) (k' := 158) (pc' := 16) (as := [.ref 112, .int (0 : Int32)]) (S' := []) (L' := [(3, .int x4), (2, .int x2), (0, .ref 112), (1, .int x0_1)]) (h' := h3) rfl rfl rfl rfl rfl).trans (kI_cg fun x6 h5 => ?_)
  refine (es_st 5 (pc' := 24) (L' := [(6, .int (0 : Int32)), (5, .int x0_1), (4, .int x6), (3, .int x4), (2, .int x2), (0, .ref 112), (1, .int x0_1)]) (S' := []) (h' := h5) rfl).trans ?_
  exact es_cut rfl rfl rfl
theorem sX8_sum_24 (B : Bool) (d : Nat) (hd : 4 ≤ d) (h : SG) (x0_1 : Int32) (x0_2 : Int32) (x0_3 : Int32) (x0_4 : Int32) (x0_5 : Int32) (x0_6 : Int32) : evS B d 170 24 [(0, .ref 112), (1, .int x0_1), (2, .int x0_2), (3, .int x0_3), (4, .int x0_4), (5, .int x0_5), (6, .int x0_6)] [] h = if x0_2 ≤ x0_6 then some (.inl (some (.int x0_5)), h) else ob (rAt h 113 (x0_3 + x0_6)) (fun x1 => ob (rAt h 113 (x0_4 + x0_6)) (fun x2 => kI (mS B (d - 1) 151 [.ref 107, .int x1, .int (x2 ^^^ x0_1)] h) (fun x4 h3 => kI (mS B (d - 1) 151 [.ref 107, .int x4, .int x0_5] h3) (fun x6 h5 => ob (rAdd h5 113 x6) (fun q7 => kI (mS B (d - 1) 148 [.ref 107, .int x1, .int (x2 ^^^ x0_1)] q7.2) (fun x9 h8 => kI (mS B (d - 1) 148 [.ref 107, .int x4, .int x0_5] h8) (fun x11 h10 => kI (mS B (d - 1) 150 [.ref 107, .int x9, .int x11] h10) (fun x13 h12 => evS B d 170 24 [(0, .ref 112), (1, .int x0_1), (2, .int x0_2), (3, .int x0_3), (4, .int x0_4), (5, .int x13), (6, .int (x0_6 + (1 : Int32)))] [] h12)))))))) := by
  obtain ⟨d, rfl⟩ : ∃ e, d = e + 4 := ⟨d - 4, by omega⟩
  refine (es_st 2 (pc' := 27) (L' := [(0, .ref 112), (1, .int x0_1), (2, .int x0_2), (3, .int x0_3), (4, .int x0_4), (5, .int x0_5), (6, .int x0_6)]) (S' := [.int x0_2, .int x0_6]) (h' := h) rfl).trans ?_
  refine (is_ge (t := 128) rfl rfl rfl).trans (if_cg ?_ ?_)
  · refine (es_st 1 (pc' := 130) (L' := [(0, .ref 112), (1, .int x0_1), (2, .int x0_2), (3, .int x0_3), (4, .int x0_4), (5, .int x0_5), (6, .int x0_6)]) (S' := [.int x0_5]) (h' := h) rfl).trans ?_
    exact es_fin rfl rfl rfl
  · refine (es_st 5 (pc' := 38) (L' := [(0, .ref 112), (1, .int x0_1), (2, .int x0_2), (3, .int x0_3), (4, .int x0_4), (5, .int x0_5), (6, .int x0_6)]) (S' := [.int (x0_3 + x0_6), .ref 113]) (h' := h) rfl).trans ?_
    refine (es_ob (o := rAt h 113 (x0_3 + x0_6)) (pc' := 41) (L' := [(0, .ref 112), (1, .int x0_1), (2, .int x0_2), (3, .int x0_3), (4, .int x0_4), (5, .int x0_5), (6, .int x0_6)]) (S' := fun z => [.int z]) (h' := fun z => h) rfl rfl rfl).trans (ob_cg fun x1 => ?_)
    refine (es_st 6 (pc' := 52) (L' := [(7, .int x1), (0, .ref 112), (1, .int x0_1), (2, .int x0_2), (3, .int x0_3), (4, .int x0_4), (5, .int x0_5), (6, .int x0_6)]) (S' := [.int (x0_4 + x0_6), .ref 113]) (h' := h) rfl).trans ?_
    refine (es_ob (o := rAt h 113 (x0_4 + x0_6)) (pc' := 55) (L' := [(7, .int x1), (0, .ref 112), (1, .int x0_1), (2, .int x0_2), (3, .int x0_3), (4, .int x0_4), (5, .int x0_5), (6, .int x0_6)]) (S' := fun z => [.int z]) (h' := fun z => h) rfl rfl rfl).trans (ob_cg fun x2 => ?_)
    refine (es_st 7 (pc' := 67) (L' := [(8, .int (x2 ^^^ x0_1)), (7, .int x1), (0, .ref 112), (1, .int x0_1), (2, .int x0_2), (3, .int x0_3), (4, .int x0_4), (5, .int x0_5), (6, .int x0_6)]) (S' := [.int (x2 ^^^ x0_1), .int x1, .ref 107]) (h' := h) rfl).trans ?_
    refine (es_cI (b := true) (k' := 151) (pc' := 70) (as := [.ref 107, .int x1, .int (x2 ^^^ x0_1)]) (S' := []) (L' := [(8, .int (x2 ^^^ x0_1)), (7, .int x1), (0, .ref 112), (1, .int x0_1), (2, .int x0_2), (3, .int x0_3), (4, .int x0_4), (5, .int x0_5), (6, .int x0_6)]) (h' := h) rfl rfl rfl rfl rfl).trans (kI_cg fun x4 h3 => ?_)
    refine (es_st 7 (pc' := 84) (L' := [(9, .int x4), (8, .int (x2 ^^^ x0_1)), (7, .int x1), (0, .ref 112), (1, .int x0_1), (2, .int x0_2), (3, .int x0_3), (4, .int x0_4), (5, .int x0_5), (6, .int x0_6)]) (S' := [.int x0_5, .int x4, .ref 107, .ref 113]) (h' := h3) rfl).trans ?_
    refine (es_cI (b := true) (k' := 151) (pc' := 87) (as := [.ref 107, .int x4, .int x0_5]) (S' := [.ref 113]) (L' := [(9, .int x4), (8, .int (x2 ^^^ x0_1)), (7, .int x1), (0, .ref 112), (1, .int x0_1), (2, .int x0_2), (3, .int x0_3), (4, .int x0_4), (5, .int x0_5), (6, .int x0_6)]) (h' := h3) rfl rfl rfl rfl rfl).trans (kI_cg fun x6 h5 => ?_)
    refine (es_ob (o := rAdd h5 113 x6) (pc' := 90) (L' := [(9, .int x4), (8, .int (x2 ^^^ x0_1)), (7, .int x1), (0, .ref 112), (1, .int x0_1), (2, .int x0_2), (3, .int x0_3), (4, .int x0_4), (5, .int x0_5), (6, .int x0_6)]) (S' := fun z => [.int z.1]) (h' := fun z => z.2) rfl rfl rfl).trans (ob_cg fun q7 => ?_)
    refine (es_st 7 (pc' := 103) (L' := [(9, .int x4), (8, .int (x2 ^^^ x0_1)), (7, .int x1), (0, .ref 112), (1, .int x0_1), (2, .int x0_2), (3, .int x0_3), (4, .int x0_4), (5, .int x0_5), (6, .int x0_6)]) (S' := [.int (x2 ^^^ x0_1), .int x1, .ref 107, .ref 107]) (h' := q7.2) rfl).trans ?_
    refine (es_cI (b := true) (k' := 148) (pc' := 106) (as := [.ref 107, .int x1, .int (x2 ^^^ x0_1)]) (S' := [.ref 107]) (L' := [(9, .int x4), (8, .int (x2 ^^^ x0_1)), (7, .int x1), (0, .ref 112), (1, .int x0_1), (2, .int x0_2), (3, .int x0_3), (4, .int x0_4), (5, .int x0_5), (6, .int x0_6)]) (h' := q7.2) rfl rfl rfl rfl rfl).trans (kI_cg fun x9 h8 => ?_)
    refine (es_st 4 (pc' := 114) (L' := [(9, .int x4), (8, .int (x2 ^^^ x0_1)), (7, .int x1), (0, .ref 112), (1, .int x0_1), (2, .int x0_2), (3, .int x0_3), (4, .int x0_4), (5, .int x0_5), (6, .int x0_6)]) (S' := [.int x0_5, .int x4, .ref 107, .int x9, .ref 107]) (h' := h8) rfl).trans ?_
    refine (es_cI (b := true) (k' := 148) (pc' := 117) (as := [.ref 107, .int x4, .int x0_5]) (S' := [.int x9, .ref 107]) (L' := [(9, .int x4), (8, .int (x2 ^^^ x0_1)), (7, .int x1), (0, .ref 112), (1, .int x0_1), (2, .int x0_2), (3, .int x0_3), (4, .int x0_4), (5, .int x0_5), (6, .int x0_6)]) (h' := h8) rfl rfl rfl rfl rfl).trans (kI_cg fun x11 h10 => ?_)
    refine (es_cI (b := true) (k' := 150) (pc' := 120) (as := [.ref 107, .int x9, .int x11]) (S' := []) (L' := [(9, .int x4), (8, .int (x2 ^^^ x0_1)), (7, .int x1), (0, .ref 112), (1, .int x0_1), (2, .int x0_2), (3, .int x0_3), (4, .int x0_4), (5, .int x0_5), (6, .int x0_6)]) (h' := h10) rfl rfl rfl rfl rfl).trans (kI_cg fun x13 h12 => ?_)
    refine (es_st 3 (pc' := 24) (L' := [(6, .int (x0_6 + (1 : Int32))), (5, .int x13), (9, .int x4), (8, .int (x2 ^^^ x0_1)), (7, .int x1), (0, .ref 112), (1, .int x0_1), (2, .int x0_2), (3, .int x0_3), (4, .int x0_4)]) (S' := []) (h' := h12) rfl).trans ?_
    exact es_cut rfl rfl rfl
theorem sX8_moved_0 (B : Bool) (d : Nat) (hd : 4 ≤ d) (h : SG) (x0_1 : Int32) : mS B d 171 [.ref 112, .int x0_1] h = ob (rAt h 115 ((Int32.ofNat (sW h 115).length) - (2 : Int32))) (fun x1 => kI (mS B (d - 1) 161 [.ref 112] h) (fun x3 h2 => kI (mS B (d - 1) 158 [.ref 112, .int (1 : Int32)] h2) (fun x5 h4 => kI (mS B (d - 1) 158 [.ref 112, .int (0 : Int32)] h4) (fun x7 h6 => evS B d 171 48 [(0, .ref 112), (1, .int x0_1), (2, .int x1), (3, .int x3), (4, .int x5), (5, .int x7), (6, .int (Int32.ofNat (sW h6 113).length)), (7, .int (0 : Int32))] [] h6)))) := by
  obtain ⟨d, rfl⟩ : ∃ e, d = e + 4 := ⟨d - 4, by omega⟩
  show evS B (d + 4) 171 0 [(0, .ref 112), (1, .int x0_1)] [] h = _
  refine (es_st 7 (pc' := 13) (L' := [(0, .ref 112), (1, .int x0_1)]) (S' := [.int ((Int32.ofNat (sW h 115).length) - (2 : Int32)), .ref 115]) (h' := h) rfl).trans ?_
  refine (es_ob (o := rAt h 115 ((Int32.ofNat (sW h 115).length) - (2 : Int32))) (pc' := 16) (L' := [(0, .ref 112), (1, .int x0_1)]) (S' := fun z => [.int z]) (h' := fun z => h) rfl rfl rfl).trans (ob_cg fun x1 => ?_)
  refine (es_st 2 (pc' := 18) (L' := [(2, .int x1), (0, .ref 112), (1, .int x0_1)]) (S' := [.ref 112]) (h' := h) rfl).trans ?_
  refine (es_cI (b := true) (k' := 161) (pc' := 21) (as := [.ref 112]) (S' := []) (L' := [(2, .int x1), (0, .ref 112), (1, .int x0_1)]) (h' := h) rfl rfl rfl rfl rfl).trans (kI_cg fun x3 h2 => ?_)
  refine (es_st 3 (pc' := 24) (L' := [(3, .int x3), (2, .int x1), (0, .ref 112), (1, .int x0_1)]) (S' := [.int (1 : Int32), .ref 112]) (h' := h2) rfl).trans ?_
  refine (es_cI (b := true) (k' := 158) (pc' := 27) (as := [.ref 112, .int (1 : Int32)]) (S' := []) (L' := [(3, .int x3), (2, .int x1), (0, .ref 112), (1, .int x0_1)]) (h' := h2) rfl rfl rfl rfl rfl).trans (kI_cg fun x5 h4 => ?_)
  refine (es_st 3 (pc' := 31) (L' := [(4, .int x5), (3, .int x3), (2, .int x1), (0, .ref 112), (1, .int x0_1)]) (S' := [.int (0 : Int32), .ref 112]) (h' := h4) rfl).trans ?_
  refine (es_cI (b := true) (k' := 158) (pc' := 34) (as := [.ref 112, .int (0 : Int32)]) (S' := []) (L' := [(4, .int x5), (3, .int x3), (2, .int x1), (0, .ref 112), (1, .int x0_1)]) (h' := h4) rfl rfl rfl rfl rfl).trans (kI_cg fun x7 h6 => ?_)
  refine (es_st 7 (pc' := 48) (L' := [(7, .int (0 : Int32)), (6, .int (Int32.ofNat (sW h6 113).length)), (5, .int x7), (4, .int x5), (3, .int x3), (2, .int x1), (0, .ref 112), (1, .int x0_1)]) (S' := []) (h' := h6) rfl).trans ?_
  exact es_cut rfl rfl rfl
theorem sX8_moved_48 (B : Bool) (d : Nat) (hd : 4 ≤ d) (h : SG) (x0_1 : Int32) (x0_2 : Int32) (x0_3 : Int32) (x0_4 : Int32) (x0_5 : Int32) (x0_6 : Int32) (x0_7 : Int32) : evS B d 171 48 [(0, .ref 112), (1, .int x0_1), (2, .int x0_2), (3, .int x0_3), (4, .int x0_4), (5, .int x0_5), (6, .int x0_6), (7, .int x0_7)] [] h = if x0_2 ≤ x0_7 then evS B d 171 87 [(0, .ref 112), (1, .int x0_1), (2, .int x0_2), (3, .int x0_3), (5, .int x0_5), (6, .int x0_6), (7, .int (0 : Int32)), (8, .int (6 : Int32))] [] h else ob (rAt h 113 (x0_4 + x0_7)) (fun x1 => ob (rAdd h 113 x1) (fun q2 => evS B d 171 48 [(0, .ref 112), (1, .int x0_1), (2, .int x0_2), (3, .int x0_3), (4, .int x0_4), (5, .int x0_5), (6, .int x0_6), (7, .int (x0_7 + (1 : Int32)))] [] q2.2)) := by
  obtain ⟨d, rfl⟩ : ∃ e, d = e + 4 := ⟨d - 4, by omega⟩
  refine (es_st 2 (pc' := 51) (L' := [(0, .ref 112), (1, .int x0_1), (2, .int x0_2), (3, .int x0_3), (4, .int x0_4), (5, .int x0_5), (6, .int x0_6), (7, .int x0_7)]) (S' := [.int x0_2, .int x0_7]) (h' := h) rfl).trans ?_
  refine (is_ge (t := 80) rfl rfl rfl).trans (if_cg ?_ ?_)
  · refine (es_st 4 (pc' := 87) (L' := [(8, .int (6 : Int32)), (7, .int (0 : Int32)), (0, .ref 112), (1, .int x0_1), (2, .int x0_2), (3, .int x0_3), (4, .int x0_4), (5, .int x0_5), (6, .int x0_6)]) (S' := []) (h' := h) rfl).trans ?_
    exact es_cut rfl rfl rfl
  · refine (es_st 7 (pc' := 67) (L' := [(0, .ref 112), (1, .int x0_1), (2, .int x0_2), (3, .int x0_3), (4, .int x0_4), (5, .int x0_5), (6, .int x0_6), (7, .int x0_7)]) (S' := [.int (x0_4 + x0_7), .ref 113, .ref 113]) (h' := h) rfl).trans ?_
    refine (es_ob (o := rAt h 113 (x0_4 + x0_7)) (pc' := 70) (L' := [(0, .ref 112), (1, .int x0_1), (2, .int x0_2), (3, .int x0_3), (4, .int x0_4), (5, .int x0_5), (6, .int x0_6), (7, .int x0_7)]) (S' := fun z => [.int z, .ref 113]) (h' := fun z => h) rfl rfl rfl).trans (ob_cg fun x1 => ?_)
    refine (es_ob (o := rAdd h 113 x1) (pc' := 73) (L' := [(0, .ref 112), (1, .int x0_1), (2, .int x0_2), (3, .int x0_3), (4, .int x0_4), (5, .int x0_5), (6, .int x0_6), (7, .int x0_7)]) (S' := fun z => [.int z.1]) (h' := fun z => z.2) rfl rfl rfl).trans (ob_cg fun q2 => ?_)
    refine (es_st 3 (pc' := 48) (L' := [(7, .int (x0_7 + (1 : Int32))), (0, .ref 112), (1, .int x0_1), (2, .int x0_2), (3, .int x0_3), (4, .int x0_4), (5, .int x0_5), (6, .int x0_6)]) (S' := []) (h' := q2.2) rfl).trans ?_
    exact es_cut rfl rfl rfl
theorem sX8_moved_87 (B : Bool) (d : Nat) (hd : 4 ≤ d) (h : SG) (x0_1 : Int32) (x0_2 : Int32) (x0_3 : Int32) (x0_5 : Int32) (x0_6 : Int32) (x0_7 : Int32) (x0_8 : Int32) : evS B d 171 87 [(0, .ref 112), (1, .int x0_1), (2, .int x0_2), (3, .int x0_3), (5, .int x0_5), (6, .int x0_6), (7, .int x0_7), (8, .int x0_8)] [] h = if x0_3 ≤ x0_8 then evS B d 171 125 [(0, .ref 112), (1, .int x0_1), (2, .int x0_2), (3, .int x0_3), (5, .int x0_5), (6, .int x0_6), (7, .int x0_7), (8, .int (0 : Int32))] [] h else ob (rAt h 113 (x0_5 + x0_8)) (fun x1 => kI (mS B (d - 1) 150 [.ref 107, .int x0_7, .int x1] h) (fun x3 h2 => evS B d 171 87 [(0, .ref 112), (1, .int x0_1), (2, .int x0_2), (3, .int x0_3), (5, .int x0_5), (6, .int x0_6), (7, .int x3), (8, .int (x0_8 + (1 : Int32)))] [] h2)) := by
  obtain ⟨d, rfl⟩ : ∃ e, d = e + 4 := ⟨d - 4, by omega⟩
  refine (es_st 2 (pc' := 90) (L' := [(0, .ref 112), (1, .int x0_1), (2, .int x0_2), (3, .int x0_3), (5, .int x0_5), (6, .int x0_6), (7, .int x0_7), (8, .int x0_8)]) (S' := [.int x0_3, .int x0_8]) (h' := h) rfl).trans ?_
  refine (is_ge (t := 122) rfl rfl rfl).trans (if_cg ?_ ?_)
  · refine (es_st 2 (pc' := 125) (L' := [(8, .int (0 : Int32)), (0, .ref 112), (1, .int x0_1), (2, .int x0_2), (3, .int x0_3), (5, .int x0_5), (6, .int x0_6), (7, .int x0_7)]) (S' := []) (h' := h) rfl).trans ?_
    exact es_cut rfl rfl rfl
  · refine (es_st 8 (pc' := 108) (L' := [(0, .ref 112), (1, .int x0_1), (2, .int x0_2), (3, .int x0_3), (5, .int x0_5), (6, .int x0_6), (7, .int x0_7), (8, .int x0_8)]) (S' := [.int (x0_5 + x0_8), .ref 113, .int x0_7, .ref 107]) (h' := h) rfl).trans ?_
    refine (es_ob (o := rAt h 113 (x0_5 + x0_8)) (pc' := 111) (L' := [(0, .ref 112), (1, .int x0_1), (2, .int x0_2), (3, .int x0_3), (5, .int x0_5), (6, .int x0_6), (7, .int x0_7), (8, .int x0_8)]) (S' := fun z => [.int z, .int x0_7, .ref 107]) (h' := fun z => h) rfl rfl rfl).trans (ob_cg fun x1 => ?_)
    refine (es_cI (b := true) (k' := 150) (pc' := 114) (as := [.ref 107, .int x0_7, .int x1]) (S' := []) (L' := [(0, .ref 112), (1, .int x0_1), (2, .int x0_2), (3, .int x0_3), (5, .int x0_5), (6, .int x0_6), (7, .int x0_7), (8, .int x0_8)]) (h' := h) rfl rfl rfl rfl rfl).trans (kI_cg fun x3 h2 => ?_)
    refine (es_st 3 (pc' := 87) (L' := [(8, .int (x0_8 + (1 : Int32))), (7, .int x3), (0, .ref 112), (1, .int x0_1), (2, .int x0_2), (3, .int x0_3), (5, .int x0_5), (6, .int x0_6)]) (S' := []) (h' := h2) rfl).trans ?_
    exact es_cut rfl rfl rfl
theorem sX8_moved_125 (B : Bool) (d : Nat) (hd : 4 ≤ d) (h : SG) (x0_1 : Int32) (x0_2 : Int32) (x0_3 : Int32) (x0_5 : Int32) (x0_6 : Int32) (x0_7 : Int32) (x0_8 : Int32) : evS B d 171 125 [(0, .ref 112), (1, .int x0_1), (2, .int x0_2), (3, .int x0_3), (5, .int x0_5), (6, .int x0_6), (7, .int x0_7), (8, .int x0_8)] [] h = if x0_2 ≤ x0_8 then evS B d 171 175 [(0, .ref 112), (1, .int x0_1), (2, .int x0_2), (3, .int x0_3), (5, .int x0_5), (6, .int x0_6), (8, .int (0 : Int32))] [] h else ob (rAt h 113 (x0_6 + x0_8)) (fun x1 => kI (mS B (d - 1) 148 [.ref 107, .int (x0_7 ^^^ (1 : Int32)), .int x1] h) (fun x3 h2 => ob (rSet h2 113 (x0_6 + x0_8) x3) (fun h4 => evS B d 171 125 [(0, .ref 112), (1, .int x0_1), (2, .int x0_2), (3, .int x0_3), (5, .int x0_5), (6, .int x0_6), (7, .int x0_7), (8, .int (x0_8 + (1 : Int32)))] [] h4))) := by
  obtain ⟨d, rfl⟩ : ∃ e, d = e + 4 := ⟨d - 4, by omega⟩
  refine (es_st 2 (pc' := 128) (L' := [(0, .ref 112), (1, .int x0_1), (2, .int x0_2), (3, .int x0_3), (5, .int x0_5), (6, .int x0_6), (7, .int x0_7), (8, .int x0_8)]) (S' := [.int x0_2, .int x0_8]) (h' := h) rfl).trans ?_
  refine (is_ge (t := 172) rfl rfl rfl).trans (if_cg ?_ ?_)
  · refine (es_st 2 (pc' := 175) (L' := [(8, .int (0 : Int32)), (0, .ref 112), (1, .int x0_1), (2, .int x0_2), (3, .int x0_3), (5, .int x0_5), (6, .int x0_6), (7, .int x0_7)]) (S' := []) (h' := h) rfl).trans ?_
    exact es_cut rfl rfl rfl
  · refine (es_st 15 (pc' := 157) (L' := [(0, .ref 112), (1, .int x0_1), (2, .int x0_2), (3, .int x0_3), (5, .int x0_5), (6, .int x0_6), (7, .int x0_7), (8, .int x0_8)]) (S' := [.int (x0_6 + x0_8), .ref 113, .int (x0_7 ^^^ (1 : Int32)), .ref 107, .int (x0_6 + x0_8), .ref 113]) (h' := h) rfl).trans ?_
    refine (es_ob (o := rAt h 113 (x0_6 + x0_8)) (pc' := 160) (L' := [(0, .ref 112), (1, .int x0_1), (2, .int x0_2), (3, .int x0_3), (5, .int x0_5), (6, .int x0_6), (7, .int x0_7), (8, .int x0_8)]) (S' := fun z => [.int z, .int (x0_7 ^^^ (1 : Int32)), .ref 107, .int (x0_6 + x0_8), .ref 113]) (h' := fun z => h) rfl rfl rfl).trans (ob_cg fun x1 => ?_)
    refine (es_cI (b := true) (k' := 148) (pc' := 163) (as := [.ref 107, .int (x0_7 ^^^ (1 : Int32)), .int x1]) (S' := [.int (x0_6 + x0_8), .ref 113]) (L' := [(0, .ref 112), (1, .int x0_1), (2, .int x0_2), (3, .int x0_3), (5, .int x0_5), (6, .int x0_6), (7, .int x0_7), (8, .int x0_8)]) (h' := h) rfl rfl rfl rfl rfl).trans (kI_cg fun x3 h2 => ?_)
    refine (es_ob (o := rSet h2 113 (x0_6 + x0_8) x3) (pc' := 166) (L' := [(0, .ref 112), (1, .int x0_1), (2, .int x0_2), (3, .int x0_3), (5, .int x0_5), (6, .int x0_6), (7, .int x0_7), (8, .int x0_8)]) (S' := fun z => []) (h' := fun z => z) rfl rfl rfl).trans (ob_cg fun h4 => ?_)
    refine (es_st 2 (pc' := 125) (L' := [(8, .int (x0_8 + (1 : Int32))), (0, .ref 112), (1, .int x0_1), (2, .int x0_2), (3, .int x0_3), (5, .int x0_5), (6, .int x0_6), (7, .int x0_7)]) (S' := []) (h' := h4) rfl).trans ?_
    exact es_cut rfl rfl rfl
theorem sX8_moved_175 (B : Bool) (d : Nat) (hd : 4 ≤ d) (h : SG) (x0_1 : Int32) (x0_2 : Int32) (x0_3 : Int32) (x0_5 : Int32) (x0_6 : Int32) (x0_8 : Int32) : evS B d 171 175 [(0, .ref 112), (1, .int x0_1), (2, .int x0_2), (3, .int x0_3), (5, .int x0_5), (6, .int x0_6), (8, .int x0_8)] [] h = if x0_3 ≤ x0_8 then kV (mS B (d - 1) 159 [.ref 112, .int (2 : Int32), .int x0_2] h) (fun h1 => some (.inl none, h1)) else if (6 : Int32) ≤ x0_8 then kV (mS B (d - 1) 159 [.ref 112, .int (2 : Int32), .int x0_2] h) (fun h2 => some (.inl none, h2)) else ob (rAt h 113 (x0_5 + x0_8)) (fun x3 => evS B d 171 211 [(0, .ref 112), (1, .int x0_1), (2, .int x0_2), (3, .int x0_3), (5, .int x0_5), (6, .int x0_6), (8, .int x0_8), (9, .int x3), (10, .int ((1 : Int32) <<< (x0_8 &&& 31))), (11, .int (0 : Int32))] [] h) := by
  obtain ⟨d, rfl⟩ : ∃ e, d = e + 4 := ⟨d - 4, by omega⟩
  refine (es_st 2 (pc' := 178) (L' := [(0, .ref 112), (1, .int x0_1), (2, .int x0_2), (3, .int x0_3), (5, .int x0_5), (6, .int x0_6), (8, .int x0_8)]) (S' := [.int x0_3, .int x0_8]) (h' := h) rfl).trans ?_
  refine (is_ge (t := 325) rfl rfl rfl).trans (if_cg ?_ ?_)
  · refine (es_st 3 (pc' := 328) (L' := [(0, .ref 112), (1, .int x0_1), (2, .int x0_2), (3, .int x0_3), (5, .int x0_5), (6, .int x0_6), (8, .int x0_8)]) (S' := [.int x0_2, .int (2 : Int32), .ref 112]) (h' := h) rfl).trans ?_
    refine (es_cV (b := true) (k' := 159) (pc' := 331) (as := [.ref 112, .int (2 : Int32), .int x0_2]) (S' := []) (L' := [(0, .ref 112), (1, .int x0_1), (2, .int x0_2), (3, .int x0_3), (5, .int x0_5), (6, .int x0_6), (8, .int x0_8)]) (h' := h) rfl rfl rfl rfl rfl).trans (kV_cg fun h1 => ?_)
    exact es_fin rfl rfl rfl
  · refine (es_st 2 (pc' := 185) (L' := [(0, .ref 112), (1, .int x0_1), (2, .int x0_2), (3, .int x0_3), (5, .int x0_5), (6, .int x0_6), (8, .int x0_8)]) (S' := [.int (6 : Int32), .int x0_8]) (h' := h) rfl).trans ?_
    refine (is_ge (t := 325) rfl rfl rfl).trans (if_cg ?_ ?_)
    · refine (es_st 3 (pc' := 328) (L' := [(0, .ref 112), (1, .int x0_1), (2, .int x0_2), (3, .int x0_3), (5, .int x0_5), (6, .int x0_6), (8, .int x0_8)]) (S' := [.int x0_2, .int (2 : Int32), .ref 112]) (h' := h) rfl).trans ?_
      refine (es_cV (b := true) (k' := 159) (pc' := 331) (as := [.ref 112, .int (2 : Int32), .int x0_2]) (S' := []) (L' := [(0, .ref 112), (1, .int x0_1), (2, .int x0_2), (3, .int x0_3), (5, .int x0_5), (6, .int x0_6), (8, .int x0_8)]) (h' := h) rfl rfl rfl rfl rfl).trans (kV_cg fun h2 => ?_)
      exact es_fin rfl rfl rfl
    · refine (es_st 5 (pc' := 197) (L' := [(0, .ref 112), (1, .int x0_1), (2, .int x0_2), (3, .int x0_3), (5, .int x0_5), (6, .int x0_6), (8, .int x0_8)]) (S' := [.int (x0_5 + x0_8), .ref 113]) (h' := h) rfl).trans ?_
      refine (es_ob (o := rAt h 113 (x0_5 + x0_8)) (pc' := 200) (L' := [(0, .ref 112), (1, .int x0_1), (2, .int x0_2), (3, .int x0_3), (5, .int x0_5), (6, .int x0_6), (8, .int x0_8)]) (S' := fun z => [.int z]) (h' := fun z => h) rfl rfl rfl).trans (ob_cg fun x3 => ?_)
      refine (es_st 7 (pc' := 211) (L' := [(11, .int (0 : Int32)), (10, .int ((1 : Int32) <<< (x0_8 &&& 31))), (9, .int x3), (0, .ref 112), (1, .int x0_1), (2, .int x0_2), (3, .int x0_3), (5, .int x0_5), (6, .int x0_6), (8, .int x0_8)]) (S' := []) (h' := h) rfl).trans ?_
      exact es_cut rfl rfl rfl
theorem sX8_moved_211 (B : Bool) (d : Nat) (hd : 4 ≤ d) (h : SG) (x0_1 : Int32) (x0_2 : Int32) (x0_3 : Int32) (x0_5 : Int32) (x0_6 : Int32) (x0_8 : Int32) (x0_9 : Int32) (x0_10 : Int32) (x0_11 : Int32) : evS B d 171 211 [(0, .ref 112), (1, .int x0_1), (2, .int x0_2), (3, .int x0_3), (5, .int x0_5), (6, .int x0_6), (8, .int x0_8), (9, .int x0_9), (10, .int x0_10), (11, .int x0_11)] [] h = if x0_2 ≤ x0_11 then evS B d 171 175 [(0, .ref 112), (1, .int x0_1), (2, .int x0_2), (3, .int x0_3), (5, .int x0_5), (6, .int x0_6), (8, .int (x0_8 + (1 : Int32)))] [] h else if x0_1 = 0 then if x0_1 = 0 then evS B d 171 251 [(0, .ref 112), (1, .int x0_1), (2, .int x0_2), (3, .int x0_3), (5, .int x0_5), (6, .int x0_6), (8, .int x0_8), (9, .int x0_9), (10, .int x0_10), (11, .int x0_11), (12, .int x0_11)] [.int (x0_11 + x0_10)] h else evS B d 171 251 [(0, .ref 112), (1, .int x0_1), (2, .int x0_2), (3, .int x0_3), (5, .int x0_5), (6, .int x0_6), (8, .int x0_8), (9, .int x0_9), (10, .int x0_10), (11, .int x0_11), (12, .int x0_11)] [.int (x0_11 - x0_10)] h else if x0_1 = 0 then evS B d 171 251 [(0, .ref 112), (1, .int x0_1), (2, .int x0_2), (3, .int x0_3), (5, .int x0_5), (6, .int x0_6), (8, .int x0_8), (9, .int x0_9), (10, .int x0_10), (11, .int x0_11), (12, .int ((x0_2 - (1 : Int32)) - x0_11))] [.int (((x0_2 - (1 : Int32)) - x0_11) + x0_10)] h else evS B d 171 251 [(0, .ref 112), (1, .int x0_1), (2, .int x0_2), (3, .int x0_3), (5, .int x0_5), (6, .int x0_6), (8, .int x0_8), (9, .int x0_9), (10, .int x0_10), (11, .int x0_11), (12, .int ((x0_2 - (1 : Int32)) - x0_11))] [.int (((x0_2 - (1 : Int32)) - x0_11) - x0_10)] h := by
  obtain ⟨d, rfl⟩ : ∃ e, d = e + 4 := ⟨d - 4, by omega⟩
  refine (es_st 2 (pc' := 214) (L' := [(0, .ref 112), (1, .int x0_1), (2, .int x0_2), (3, .int x0_3), (5, .int x0_5), (6, .int x0_6), (8, .int x0_8), (9, .int x0_9), (10, .int x0_10), (11, .int x0_11)]) (S' := [.int x0_2, .int x0_11]) (h' := h) rfl).trans ?_
  refine (is_ge (t := 319) rfl rfl rfl).trans (if_cg ?_ ?_)
  · refine (es_st 2 (pc' := 175) (L' := [(8, .int (x0_8 + (1 : Int32))), (0, .ref 112), (1, .int x0_1), (2, .int x0_2), (3, .int x0_3), (5, .int x0_5), (6, .int x0_6), (9, .int x0_9), (10, .int x0_10), (11, .int x0_11)]) (S' := []) (h' := h) rfl).trans ?_
    exact es_cut rfl rfl rfl
  · refine (es_st 1 (pc' := 218) (L' := [(0, .ref 112), (1, .int x0_1), (2, .int x0_2), (3, .int x0_3), (5, .int x0_5), (6, .int x0_6), (8, .int x0_8), (9, .int x0_9), (10, .int x0_10), (11, .int x0_11)]) (S' := [.int x0_1]) (h' := h) rfl).trans ?_
    refine (zs_eq (t := 230) rfl rfl rfl).trans (if_cg ?_ ?_)
    · refine (es_st 3 (pc' := 235) (L' := [(12, .int x0_11), (0, .ref 112), (1, .int x0_1), (2, .int x0_2), (3, .int x0_3), (5, .int x0_5), (6, .int x0_6), (8, .int x0_8), (9, .int x0_9), (10, .int x0_10), (11, .int x0_11)]) (S' := [.int x0_1]) (h' := h) rfl).trans ?_
      refine (zs_eq (t := 246) rfl rfl rfl).trans (if_cg ?_ ?_)
      · refine (es_st 3 (pc' := 251) (L' := [(12, .int x0_11), (0, .ref 112), (1, .int x0_1), (2, .int x0_2), (3, .int x0_3), (5, .int x0_5), (6, .int x0_6), (8, .int x0_8), (9, .int x0_9), (10, .int x0_10), (11, .int x0_11)]) (S' := [.int (x0_11 + x0_10)]) (h' := h) rfl).trans ?_
        exact es_cut rfl rfl rfl
      · refine (es_st 4 (pc' := 251) (L' := [(12, .int x0_11), (0, .ref 112), (1, .int x0_1), (2, .int x0_2), (3, .int x0_3), (5, .int x0_5), (6, .int x0_6), (8, .int x0_8), (9, .int x0_9), (10, .int x0_10), (11, .int x0_11)]) (S' := [.int (x0_11 - x0_10)]) (h' := h) rfl).trans ?_
        exact es_cut rfl rfl rfl
    · refine (es_st 8 (pc' := 235) (L' := [(12, .int ((x0_2 - (1 : Int32)) - x0_11)), (0, .ref 112), (1, .int x0_1), (2, .int x0_2), (3, .int x0_3), (5, .int x0_5), (6, .int x0_6), (8, .int x0_8), (9, .int x0_9), (10, .int x0_10), (11, .int x0_11)]) (S' := [.int x0_1]) (h' := h) rfl).trans ?_
      refine (zs_eq (t := 246) rfl rfl rfl).trans (if_cg ?_ ?_)
      · refine (es_st 3 (pc' := 251) (L' := [(12, .int ((x0_2 - (1 : Int32)) - x0_11)), (0, .ref 112), (1, .int x0_1), (2, .int x0_2), (3, .int x0_3), (5, .int x0_5), (6, .int x0_6), (8, .int x0_8), (9, .int x0_9), (10, .int x0_10), (11, .int x0_11)]) (S' := [.int (((x0_2 - (1 : Int32)) - x0_11) + x0_10)]) (h' := h) rfl).trans ?_
        exact es_cut rfl rfl rfl
      · refine (es_st 4 (pc' := 251) (L' := [(12, .int ((x0_2 - (1 : Int32)) - x0_11)), (0, .ref 112), (1, .int x0_1), (2, .int x0_2), (3, .int x0_3), (5, .int x0_5), (6, .int x0_6), (8, .int x0_8), (9, .int x0_9), (10, .int x0_10), (11, .int x0_11)]) (S' := [.int (((x0_2 - (1 : Int32)) - x0_11) - x0_10)]) (h' := h) rfl).trans ?_
        exact es_cut rfl rfl rfl
theorem sX8_moved_251 (B : Bool) (d : Nat) (hd : 4 ≤ d) (h : SG) (x0_1 : Int32) (x0_2 : Int32) (x0_3 : Int32) (x0_5 : Int32) (x0_6 : Int32) (x0_8 : Int32) (x0_9 : Int32) (x0_10 : Int32) (x0_11 : Int32) (x0_12 : Int32) (s0 : Int32) : evS B d 171 251 [(0, .ref 112), (1, .int x0_1), (2, .int x0_2), (3, .int x0_3), (5, .int x0_5), (6, .int x0_6), (8, .int x0_8), (9, .int x0_9), (10, .int x0_10), (11, .int x0_11), (12, .int x0_12)] [.int s0] h = if s0 < 0 then ob (rAt h 113 (x0_6 + x0_12)) (fun x1 => kI (mS B (d - 1) 147 [.ref 107, .int x0_9, .int (0 : Int32), .int x1] h) (fun x3 h2 => ob (rSet h2 113 (x0_6 + x0_12) x3) (fun h4 => evS B d 171 211 [(0, .ref 112), (1, .int x0_1), (2, .int x0_2), (3, .int x0_3), (5, .int x0_5), (6, .int x0_6), (8, .int x0_8), (9, .int x0_9), (10, .int x0_10), (11, .int (x0_11 + (1 : Int32)))] [] h4))) else if s0 < x0_2 then ob (rAt h 113 (x0_6 + s0)) (fun x5 => ob (rAt h 113 (x0_6 + x0_12)) (fun x6 => kI (mS B (d - 1) 147 [.ref 107, .int x0_9, .int x5, .int x6] h) (fun x8 h7 => ob (rSet h7 113 (x0_6 + x0_12) x8) (fun h9 => evS B d 171 211 [(0, .ref 112), (1, .int x0_1), (2, .int x0_2), (3, .int x0_3), (5, .int x0_5), (6, .int x0_6), (8, .int x0_8), (9, .int x0_9), (10, .int x0_10), (11, .int (x0_11 + (1 : Int32)))] [] h9)))) else ob (rAt h 113 (x0_6 + x0_12)) (fun x10 => kI (mS B (d - 1) 147 [.ref 107, .int x0_9, .int (0 : Int32), .int x10] h) (fun x12 h11 => ob (rSet h11 113 (x0_6 + x0_12) x12) (fun h13 => evS B d 171 211 [(0, .ref 112), (1, .int x0_1), (2, .int x0_2), (3, .int x0_3), (5, .int x0_5), (6, .int x0_6), (8, .int x0_8), (9, .int x0_9), (10, .int x0_10), (11, .int (x0_11 + (1 : Int32)))] [] h13))) := by
  obtain ⟨d, rfl⟩ : ∃ e, d = e + 4 := ⟨d - 4, by omega⟩
  refine (es_st 10 (pc' := 270) (L' := [(13, .int s0), (0, .ref 112), (1, .int x0_1), (2, .int x0_2), (3, .int x0_3), (5, .int x0_5), (6, .int x0_6), (8, .int x0_8), (9, .int x0_9), (10, .int x0_10), (11, .int x0_11), (12, .int x0_12)]) (S' := [.int s0, .int x0_9, .ref 107, .int (x0_6 + x0_12), .ref 113]) (h' := h) rfl).trans ?_
  refine (zs_lt (t := 279) rfl rfl rfl).trans (if_cg ?_ ?_)
  · refine (es_st 7 (pc' := 304) (L' := [(13, .int s0), (0, .ref 112), (1, .int x0_1), (2, .int x0_2), (3, .int x0_3), (5, .int x0_5), (6, .int x0_6), (8, .int x0_8), (9, .int x0_9), (10, .int x0_10), (11, .int x0_11), (12, .int x0_12)]) (S' := [.int (x0_6 + x0_12), .ref 113, .int (0 : Int32), .int x0_9, .ref 107, .int (x0_6 + x0_12), .ref 113]) (h' := h) rfl).trans ?_
    refine (es_ob (o := rAt h 113 (x0_6 + x0_12)) (pc' := 307) (L' := [(13, .int s0), (0, .ref 112), (1, .int x0_1), (2, .int x0_2), (3, .int x0_3), (5, .int x0_5), (6, .int x0_6), (8, .int x0_8), (9, .int x0_9), (10, .int x0_10), (11, .int x0_11), (12, .int x0_12)]) (S' := fun z => [.int z, .int (0 : Int32), .int x0_9, .ref 107, .int (x0_6 + x0_12), .ref 113]) (h' := fun z => h) rfl rfl rfl).trans (ob_cg fun x1 => ?_)
    refine (es_cI (b := true) (k' := 147) (pc' := 310) (as := [.ref 107, .int x0_9, .int (0 : Int32), .int x1]) (S' := [.int (x0_6 + x0_12), .ref 113]) (L' := [(13, .int s0), (0, .ref 112), (1, .int x0_1), (2, .int x0_2), (3, .int x0_3), (5, .int x0_5), (6, .int x0_6), (8, .int x0_8), (9, .int x0_9), (10, .int x0_10), (11, .int x0_11), (12, .int x0_12)]) (h' := h) rfl rfl rfl rfl rfl).trans (kI_cg fun x3 h2 => ?_)
    refine (es_ob (o := rSet h2 113 (x0_6 + x0_12) x3) (pc' := 313) (L' := [(13, .int s0), (0, .ref 112), (1, .int x0_1), (2, .int x0_2), (3, .int x0_3), (5, .int x0_5), (6, .int x0_6), (8, .int x0_8), (9, .int x0_9), (10, .int x0_10), (11, .int x0_11), (12, .int x0_12)]) (S' := fun z => []) (h' := fun z => z) rfl rfl rfl).trans (ob_cg fun h4 => ?_)
    refine (es_st 2 (pc' := 211) (L' := [(11, .int (x0_11 + (1 : Int32))), (13, .int s0), (0, .ref 112), (1, .int x0_1), (2, .int x0_2), (3, .int x0_3), (5, .int x0_5), (6, .int x0_6), (8, .int x0_8), (9, .int x0_9), (10, .int x0_10), (12, .int x0_12)]) (S' := []) (h' := h4) rfl).trans ?_
    exact es_cut rfl rfl rfl
  · refine (es_st 2 (pc' := 276) (L' := [(13, .int s0), (0, .ref 112), (1, .int x0_1), (2, .int x0_2), (3, .int x0_3), (5, .int x0_5), (6, .int x0_6), (8, .int x0_8), (9, .int x0_9), (10, .int x0_10), (11, .int x0_11), (12, .int x0_12)]) (S' := [.int x0_2, .int s0, .int x0_9, .ref 107, .int (x0_6 + x0_12), .ref 113]) (h' := h) rfl).trans ?_
    refine (is_lt (t := 283) rfl rfl rfl).trans (if_cg ?_ ?_)
    · refine (es_st 5 (pc' := 292) (L' := [(13, .int s0), (0, .ref 112), (1, .int x0_1), (2, .int x0_2), (3, .int x0_3), (5, .int x0_5), (6, .int x0_6), (8, .int x0_8), (9, .int x0_9), (10, .int x0_10), (11, .int x0_11), (12, .int x0_12)]) (S' := [.int (x0_6 + s0), .ref 113, .int x0_9, .ref 107, .int (x0_6 + x0_12), .ref 113]) (h' := h) rfl).trans ?_
      refine (es_ob (o := rAt h 113 (x0_6 + s0)) (pc' := 295) (L' := [(13, .int s0), (0, .ref 112), (1, .int x0_1), (2, .int x0_2), (3, .int x0_3), (5, .int x0_5), (6, .int x0_6), (8, .int x0_8), (9, .int x0_9), (10, .int x0_10), (11, .int x0_11), (12, .int x0_12)]) (S' := fun z => [.int z, .int x0_9, .ref 107, .int (x0_6 + x0_12), .ref 113]) (h' := fun z => h) rfl rfl rfl).trans (ob_cg fun x5 => ?_)
      refine (es_st 5 (pc' := 304) (L' := [(13, .int s0), (0, .ref 112), (1, .int x0_1), (2, .int x0_2), (3, .int x0_3), (5, .int x0_5), (6, .int x0_6), (8, .int x0_8), (9, .int x0_9), (10, .int x0_10), (11, .int x0_11), (12, .int x0_12)]) (S' := [.int (x0_6 + x0_12), .ref 113, .int x5, .int x0_9, .ref 107, .int (x0_6 + x0_12), .ref 113]) (h' := h) rfl).trans ?_
      refine (es_ob (o := rAt h 113 (x0_6 + x0_12)) (pc' := 307) (L' := [(13, .int s0), (0, .ref 112), (1, .int x0_1), (2, .int x0_2), (3, .int x0_3), (5, .int x0_5), (6, .int x0_6), (8, .int x0_8), (9, .int x0_9), (10, .int x0_10), (11, .int x0_11), (12, .int x0_12)]) (S' := fun z => [.int z, .int x5, .int x0_9, .ref 107, .int (x0_6 + x0_12), .ref 113]) (h' := fun z => h) rfl rfl rfl).trans (ob_cg fun x6 => ?_)
      refine (es_cI (b := true) (k' := 147) (pc' := 310) (as := [.ref 107, .int x0_9, .int x5, .int x6]) (S' := [.int (x0_6 + x0_12), .ref 113]) (L' := [(13, .int s0), (0, .ref 112), (1, .int x0_1), (2, .int x0_2), (3, .int x0_3), (5, .int x0_5), (6, .int x0_6), (8, .int x0_8), (9, .int x0_9), (10, .int x0_10), (11, .int x0_11), (12, .int x0_12)]) (h' := h) rfl rfl rfl rfl rfl).trans (kI_cg fun x8 h7 => ?_)
      refine (es_ob (o := rSet h7 113 (x0_6 + x0_12) x8) (pc' := 313) (L' := [(13, .int s0), (0, .ref 112), (1, .int x0_1), (2, .int x0_2), (3, .int x0_3), (5, .int x0_5), (6, .int x0_6), (8, .int x0_8), (9, .int x0_9), (10, .int x0_10), (11, .int x0_11), (12, .int x0_12)]) (S' := fun z => []) (h' := fun z => z) rfl rfl rfl).trans (ob_cg fun h9 => ?_)
      refine (es_st 2 (pc' := 211) (L' := [(11, .int (x0_11 + (1 : Int32))), (13, .int s0), (0, .ref 112), (1, .int x0_1), (2, .int x0_2), (3, .int x0_3), (5, .int x0_5), (6, .int x0_6), (8, .int x0_8), (9, .int x0_9), (10, .int x0_10), (12, .int x0_12)]) (S' := []) (h' := h9) rfl).trans ?_
      exact es_cut rfl rfl rfl
    · refine (es_st 7 (pc' := 304) (L' := [(13, .int s0), (0, .ref 112), (1, .int x0_1), (2, .int x0_2), (3, .int x0_3), (5, .int x0_5), (6, .int x0_6), (8, .int x0_8), (9, .int x0_9), (10, .int x0_10), (11, .int x0_11), (12, .int x0_12)]) (S' := [.int (x0_6 + x0_12), .ref 113, .int (0 : Int32), .int x0_9, .ref 107, .int (x0_6 + x0_12), .ref 113]) (h' := h) rfl).trans ?_
      refine (es_ob (o := rAt h 113 (x0_6 + x0_12)) (pc' := 307) (L' := [(13, .int s0), (0, .ref 112), (1, .int x0_1), (2, .int x0_2), (3, .int x0_3), (5, .int x0_5), (6, .int x0_6), (8, .int x0_8), (9, .int x0_9), (10, .int x0_10), (11, .int x0_11), (12, .int x0_12)]) (S' := fun z => [.int z, .int (0 : Int32), .int x0_9, .ref 107, .int (x0_6 + x0_12), .ref 113]) (h' := fun z => h) rfl rfl rfl).trans (ob_cg fun x10 => ?_)
      refine (es_cI (b := true) (k' := 147) (pc' := 310) (as := [.ref 107, .int x0_9, .int (0 : Int32), .int x10]) (S' := [.int (x0_6 + x0_12), .ref 113]) (L' := [(13, .int s0), (0, .ref 112), (1, .int x0_1), (2, .int x0_2), (3, .int x0_3), (5, .int x0_5), (6, .int x0_6), (8, .int x0_8), (9, .int x0_9), (10, .int x0_10), (11, .int x0_11), (12, .int x0_12)]) (h' := h) rfl rfl rfl rfl rfl).trans (kI_cg fun x12 h11 => ?_)
      refine (es_ob (o := rSet h11 113 (x0_6 + x0_12) x12) (pc' := 313) (L' := [(13, .int s0), (0, .ref 112), (1, .int x0_1), (2, .int x0_2), (3, .int x0_3), (5, .int x0_5), (6, .int x0_6), (8, .int x0_8), (9, .int x0_9), (10, .int x0_10), (11, .int x0_11), (12, .int x0_12)]) (S' := fun z => []) (h' := fun z => z) rfl rfl rfl).trans (ob_cg fun h13 => ?_)
      refine (es_st 2 (pc' := 211) (L' := [(11, .int (x0_11 + (1 : Int32))), (13, .int s0), (0, .ref 112), (1, .int x0_1), (2, .int x0_2), (3, .int x0_3), (5, .int x0_5), (6, .int x0_6), (8, .int x0_8), (9, .int x0_9), (10, .int x0_10), (12, .int x0_12)]) (S' := []) (h' := h13) rfl).trans ?_
      exact es_cut rfl rfl rfl
theorem sX8_product_0 (B : Bool) (d : Nat) (hd : 4 ≤ d) (h : SG) : mS B d 172 [.ref 112] h = kI (mS B (d - 1) 161 [.ref 112] h) (fun x2 h1 => kI (mS B (d - 1) 158 [.ref 112, .int (1 : Int32)] h1) (fun x4 h3 => kI (mS B (d - 1) 158 [.ref 112, .int (0 : Int32)] h3) (fun x6 h5 => evS B d 172 29 [(0, .ref 112), (1, .int x2), (2, .int x4), (3, .int x6), (4, .int (Int32.ofNat (sW h5 113).length)), (5, .int (0 : Int32))] [] h5))) := by
  obtain ⟨d, rfl⟩ : ∃ e, d = e + 4 := ⟨d - 4, by omega⟩
  show evS B (d + 4) 172 0 [(0, .ref 112)] [] h = _
  refine (es_st 1 (pc' := 1) (L' := [(0, .ref 112)]) (S' := [.ref 112]) (h' := h) rfl).trans ?_
  refine (es_cI (b := true) (k' := 161) (pc' := 4) (as := [.ref 112]) (S' := []) (L' := [(0, .ref 112)]) (h' := h) rfl rfl rfl rfl rfl).trans (kI_cg fun x2 h1 => ?_)
  refine (es_st 3 (pc' := 7) (L' := [(1, .int x2), (0, .ref 112)]) (S' := [.int (1 : Int32), .ref 112]) (h' := h1) rfl).trans ?_
  refine (es_cI (b := true) (k' := 158) (pc' := 10) (as := [.ref 112, .int (1 : Int32)]) (S' := []) (L' := [(1, .int x2), (0, .ref 112)]) (h' := h1) rfl rfl rfl rfl rfl).trans (kI_cg fun x4 h3 => ?_)
  refine (es_st 3 (pc' := 13) (L' := [(2, .int x4), (1, .int x2), (0, .ref 112)]) (S' := [.int (0 : Int32), .ref 112]) (h' := h3) rfl).trans ?_
  refine (es_cI (b := true) (k' := 158) (pc' := 16) (as := [.ref 112, .int (0 : Int32)]) (S' := []) (L' := [(2, .int x4), (1, .int x2), (0, .ref 112)]) (h' := h3) rfl rfl rfl rfl rfl).trans (kI_cg fun x6 h5 => ?_)
  refine (es_st 7 (pc' := 29) (L' := [(5, .int (0 : Int32)), (4, .int (Int32.ofNat (sW h5 113).length)), (3, .int x6), (2, .int x4), (1, .int x2), (0, .ref 112)]) (S' := []) (h' := h5) rfl).trans ?_
  exact es_cut rfl rfl rfl
theorem sX8_product_29 (B : Bool) (d : Nat) (hd : 4 ≤ d) (h : SG) (x0_1 : Int32) (x0_2 : Int32) (x0_3 : Int32) (x0_4 : Int32) (x0_5 : Int32) : evS B d 172 29 [(0, .ref 112), (1, .int x0_1), (2, .int x0_2), (3, .int x0_3), (4, .int x0_4), (5, .int x0_5)] [] h = if x0_1 ≤ x0_5 then evS B d 172 53 [(0, .ref 112), (1, .int x0_1), (2, .int x0_2), (3, .int x0_3), (4, .int x0_4), (5, .int (0 : Int32))] [] h else ob (rAdd h 113 (0 : Int32)) (fun q1 => evS B d 172 29 [(0, .ref 112), (1, .int x0_1), (2, .int x0_2), (3, .int x0_3), (4, .int x0_4), (5, .int (x0_5 + (1 : Int32)))] [] q1.2) := by
  obtain ⟨d, rfl⟩ : ∃ e, d = e + 4 := ⟨d - 4, by omega⟩
  refine (es_st 2 (pc' := 32) (L' := [(0, .ref 112), (1, .int x0_1), (2, .int x0_2), (3, .int x0_3), (4, .int x0_4), (5, .int x0_5)]) (S' := [.int x0_1, .int x0_5]) (h' := h) rfl).trans ?_
  refine (is_ge (t := 50) rfl rfl rfl).trans (if_cg ?_ ?_)
  · refine (es_st 2 (pc' := 53) (L' := [(5, .int (0 : Int32)), (0, .ref 112), (1, .int x0_1), (2, .int x0_2), (3, .int x0_3), (4, .int x0_4)]) (S' := []) (h' := h) rfl).trans ?_
    exact es_cut rfl rfl rfl
  · refine (es_st 3 (pc' := 40) (L' := [(0, .ref 112), (1, .int x0_1), (2, .int x0_2), (3, .int x0_3), (4, .int x0_4), (5, .int x0_5)]) (S' := [.int (0 : Int32), .ref 113]) (h' := h) rfl).trans ?_
    refine (es_ob (o := rAdd h 113 (0 : Int32)) (pc' := 43) (L' := [(0, .ref 112), (1, .int x0_1), (2, .int x0_2), (3, .int x0_3), (4, .int x0_4), (5, .int x0_5)]) (S' := fun z => [.int z.1]) (h' := fun z => z.2) rfl rfl rfl).trans (ob_cg fun q1 => ?_)
    refine (es_st 3 (pc' := 29) (L' := [(5, .int (x0_5 + (1 : Int32))), (0, .ref 112), (1, .int x0_1), (2, .int x0_2), (3, .int x0_3), (4, .int x0_4)]) (S' := []) (h' := q1.2) rfl).trans ?_
    exact es_cut rfl rfl rfl
theorem sX8_product_53 (B : Bool) (d : Nat) (hd : 4 ≤ d) (h : SG) (x0_1 : Int32) (x0_2 : Int32) (x0_3 : Int32) (x0_4 : Int32) (x0_5 : Int32) : evS B d 172 53 [(0, .ref 112), (1, .int x0_1), (2, .int x0_2), (3, .int x0_3), (4, .int x0_4), (5, .int x0_5)] [] h = if x0_1 ≤ x0_5 then kV (mS B (d - 1) 159 [.ref 112, .int (2 : Int32), .int x0_1] h) (fun h1 => some (.inl none, h1)) else evS B d 172 66 [(0, .ref 112), (1, .int x0_1), (2, .int x0_2), (3, .int x0_3), (4, .int x0_4), (5, .int x0_5), (6, .int (0 : Int32)), (7, .int x0_5)] [] h := by
  obtain ⟨d, rfl⟩ : ∃ e, d = e + 4 := ⟨d - 4, by omega⟩
  refine (es_st 2 (pc' := 56) (L' := [(0, .ref 112), (1, .int x0_1), (2, .int x0_2), (3, .int x0_3), (4, .int x0_4), (5, .int x0_5)]) (S' := [.int x0_1, .int x0_5]) (h' := h) rfl).trans ?_
  refine (is_ge (t := 199) rfl rfl rfl).trans (if_cg ?_ ?_)
  · refine (es_st 3 (pc' := 202) (L' := [(0, .ref 112), (1, .int x0_1), (2, .int x0_2), (3, .int x0_3), (4, .int x0_4), (5, .int x0_5)]) (S' := [.int x0_1, .int (2 : Int32), .ref 112]) (h' := h) rfl).trans ?_
    refine (es_cV (b := true) (k' := 159) (pc' := 205) (as := [.ref 112, .int (2 : Int32), .int x0_1]) (S' := []) (L' := [(0, .ref 112), (1, .int x0_1), (2, .int x0_2), (3, .int x0_3), (4, .int x0_4), (5, .int x0_5)]) (h' := h) rfl rfl rfl rfl rfl).trans (kV_cg fun h1 => ?_)
    exact es_fin rfl rfl rfl
  · refine (es_st 4 (pc' := 66) (L' := [(7, .int x0_5), (6, .int (0 : Int32)), (0, .ref 112), (1, .int x0_1), (2, .int x0_2), (3, .int x0_3), (4, .int x0_4), (5, .int x0_5)]) (S' := []) (h' := h) rfl).trans ?_
    exact es_cut rfl rfl rfl
theorem sX8_product_66 (B : Bool) (d : Nat) (hd : 4 ≤ d) (h : SG) (x0_1 : Int32) (x0_2 : Int32) (x0_3 : Int32) (x0_4 : Int32) (x0_5 : Int32) (x0_6 : Int32) (x0_7 : Int32) : evS B d 172 66 [(0, .ref 112), (1, .int x0_1), (2, .int x0_2), (3, .int x0_3), (4, .int x0_4), (5, .int x0_5), (6, .int x0_6), (7, .int x0_7)] [] h = if x0_1 ≤ x0_7 then evS B d 172 53 [(0, .ref 112), (1, .int x0_1), (2, .int x0_2), (3, .int x0_3), (4, .int x0_4), (5, .int (x0_5 + (1 : Int32)))] [] h else ob (rAt h 113 (x0_4 + x0_7)) (fun x1 => ob (rAt h 113 ((x0_2 + x0_7) - x0_5)) (fun x2 => ob (rAt h 113 (x0_3 + x0_5)) (fun x3 => kI (mS B (d - 1) 148 [.ref 107, .int x2, .int x3] h) (fun x5 h4 => kI (mS B (d - 1) 151 [.ref 107, .int x1, .int x5] h4) (fun x7 h6 => kI (mS B (d - 1) 151 [.ref 107, .int x7, .int x0_6] h6) (fun x9 h8 => ob (rSet h8 113 (x0_4 + x0_7) x9) (fun h10 => kI (mS B (d - 1) 148 [.ref 107, .int x1, .int x5] h10) (fun x12 h11 => kI (mS B (d - 1) 148 [.ref 107, .int x7, .int x0_6] h11) (fun x14 h13 => kI (mS B (d - 1) 150 [.ref 107, .int x12, .int x14] h13) (fun x16 h15 => evS B d 172 66 [(0, .ref 112), (1, .int x0_1), (2, .int x0_2), (3, .int x0_3), (4, .int x0_4), (5, .int x0_5), (6, .int x16), (7, .int (x0_7 + (1 : Int32)))] [] h15)))))))))) := by
  obtain ⟨d, rfl⟩ : ∃ e, d = e + 4 := ⟨d - 4, by omega⟩
  refine (es_st 2 (pc' := 69) (L' := [(0, .ref 112), (1, .int x0_1), (2, .int x0_2), (3, .int x0_3), (4, .int x0_4), (5, .int x0_5), (6, .int x0_6), (7, .int x0_7)]) (S' := [.int x0_1, .int x0_7]) (h' := h) rfl).trans ?_
  refine (is_ge (t := 193) rfl rfl rfl).trans (if_cg ?_ ?_)
  · refine (es_st 2 (pc' := 53) (L' := [(5, .int (x0_5 + (1 : Int32))), (0, .ref 112), (1, .int x0_1), (2, .int x0_2), (3, .int x0_3), (4, .int x0_4), (6, .int x0_6), (7, .int x0_7)]) (S' := []) (h' := h) rfl).trans ?_
    exact es_cut rfl rfl rfl
  · refine (es_st 5 (pc' := 81) (L' := [(0, .ref 112), (1, .int x0_1), (2, .int x0_2), (3, .int x0_3), (4, .int x0_4), (5, .int x0_5), (6, .int x0_6), (7, .int x0_7)]) (S' := [.int (x0_4 + x0_7), .ref 113]) (h' := h) rfl).trans ?_
    refine (es_ob (o := rAt h 113 (x0_4 + x0_7)) (pc' := 84) (L' := [(0, .ref 112), (1, .int x0_1), (2, .int x0_2), (3, .int x0_3), (4, .int x0_4), (5, .int x0_5), (6, .int x0_6), (7, .int x0_7)]) (S' := fun z => [.int z]) (h' := fun z => h) rfl rfl rfl).trans (ob_cg fun x1 => ?_)
    refine (es_st 10 (pc' := 101) (L' := [(8, .int x1), (0, .ref 112), (1, .int x0_1), (2, .int x0_2), (3, .int x0_3), (4, .int x0_4), (5, .int x0_5), (6, .int x0_6), (7, .int x0_7)]) (S' := [.int ((x0_2 + x0_7) - x0_5), .ref 113, .ref 107]) (h' := h) rfl).trans ?_
    refine (es_ob (o := rAt h 113 ((x0_2 + x0_7) - x0_5)) (pc' := 104) (L' := [(8, .int x1), (0, .ref 112), (1, .int x0_1), (2, .int x0_2), (3, .int x0_3), (4, .int x0_4), (5, .int x0_5), (6, .int x0_6), (7, .int x0_7)]) (S' := fun z => [.int z, .ref 107]) (h' := fun z => h) rfl rfl rfl).trans (ob_cg fun x2 => ?_)
    refine (es_st 5 (pc' := 112) (L' := [(8, .int x1), (0, .ref 112), (1, .int x0_1), (2, .int x0_2), (3, .int x0_3), (4, .int x0_4), (5, .int x0_5), (6, .int x0_6), (7, .int x0_7)]) (S' := [.int (x0_3 + x0_5), .ref 113, .int x2, .ref 107]) (h' := h) rfl).trans ?_
    refine (es_ob (o := rAt h 113 (x0_3 + x0_5)) (pc' := 115) (L' := [(8, .int x1), (0, .ref 112), (1, .int x0_1), (2, .int x0_2), (3, .int x0_3), (4, .int x0_4), (5, .int x0_5), (6, .int x0_6), (7, .int x0_7)]) (S' := fun z => [.int z, .int x2, .ref 107]) (h' := fun z => h) rfl rfl rfl).trans (ob_cg fun x3 => ?_)
    refine (es_cI (b := true) (k' := 148) (pc' := 118) (as := [.ref 107, .int x2, .int x3]) (S' := []) (L' := [(8, .int x1), (0, .ref 112), (1, .int x0_1), (2, .int x0_2), (3, .int x0_3), (4, .int x0_4), (5, .int x0_5), (6, .int x0_6), (7, .int x0_7)]) (h' := h) rfl rfl rfl rfl rfl).trans (kI_cg fun x5 h4 => ?_)
    refine (es_st 5 (pc' := 128) (L' := [(9, .int x5), (8, .int x1), (0, .ref 112), (1, .int x0_1), (2, .int x0_2), (3, .int x0_3), (4, .int x0_4), (5, .int x0_5), (6, .int x0_6), (7, .int x0_7)]) (S' := [.int x5, .int x1, .ref 107]) (h' := h4) rfl).trans ?_
    refine (es_cI (b := true) (k' := 151) (pc' := 131) (as := [.ref 107, .int x1, .int x5]) (S' := []) (L' := [(9, .int x5), (8, .int x1), (0, .ref 112), (1, .int x0_1), (2, .int x0_2), (3, .int x0_3), (4, .int x0_4), (5, .int x0_5), (6, .int x0_6), (7, .int x0_7)]) (h' := h4) rfl rfl rfl rfl rfl).trans (kI_cg fun x7 h6 => ?_)
    refine (es_st 10 (pc' := 150) (L' := [(10, .int x7), (9, .int x5), (8, .int x1), (0, .ref 112), (1, .int x0_1), (2, .int x0_2), (3, .int x0_3), (4, .int x0_4), (5, .int x0_5), (6, .int x0_6), (7, .int x0_7)]) (S' := [.int x0_6, .int x7, .ref 107, .int (x0_4 + x0_7), .ref 113]) (h' := h6) rfl).trans ?_
    refine (es_cI (b := true) (k' := 151) (pc' := 153) (as := [.ref 107, .int x7, .int x0_6]) (S' := [.int (x0_4 + x0_7), .ref 113]) (L' := [(10, .int x7), (9, .int x5), (8, .int x1), (0, .ref 112), (1, .int x0_1), (2, .int x0_2), (3, .int x0_3), (4, .int x0_4), (5, .int x0_5), (6, .int x0_6), (7, .int x0_7)]) (h' := h6) rfl rfl rfl rfl rfl).trans (kI_cg fun x9 h8 => ?_)
    refine (es_ob (o := rSet h8 113 (x0_4 + x0_7) x9) (pc' := 156) (L' := [(10, .int x7), (9, .int x5), (8, .int x1), (0, .ref 112), (1, .int x0_1), (2, .int x0_2), (3, .int x0_3), (4, .int x0_4), (5, .int x0_5), (6, .int x0_6), (7, .int x0_7)]) (S' := fun z => []) (h' := fun z => z) rfl rfl rfl).trans (ob_cg fun h10 => ?_)
    refine (es_st 6 (pc' := 168) (L' := [(10, .int x7), (9, .int x5), (8, .int x1), (0, .ref 112), (1, .int x0_1), (2, .int x0_2), (3, .int x0_3), (4, .int x0_4), (5, .int x0_5), (6, .int x0_6), (7, .int x0_7)]) (S' := [.int x5, .int x1, .ref 107, .ref 107]) (h' := h10) rfl).trans ?_
    refine (es_cI (b := true) (k' := 148) (pc' := 171) (as := [.ref 107, .int x1, .int x5]) (S' := [.ref 107]) (L' := [(10, .int x7), (9, .int x5), (8, .int x1), (0, .ref 112), (1, .int x0_1), (2, .int x0_2), (3, .int x0_3), (4, .int x0_4), (5, .int x0_5), (6, .int x0_6), (7, .int x0_7)]) (h' := h10) rfl rfl rfl rfl rfl).trans (kI_cg fun x12 h11 => ?_)
    refine (es_st 4 (pc' := 179) (L' := [(10, .int x7), (9, .int x5), (8, .int x1), (0, .ref 112), (1, .int x0_1), (2, .int x0_2), (3, .int x0_3), (4, .int x0_4), (5, .int x0_5), (6, .int x0_6), (7, .int x0_7)]) (S' := [.int x0_6, .int x7, .ref 107, .int x12, .ref 107]) (h' := h11) rfl).trans ?_
    refine (es_cI (b := true) (k' := 148) (pc' := 182) (as := [.ref 107, .int x7, .int x0_6]) (S' := [.int x12, .ref 107]) (L' := [(10, .int x7), (9, .int x5), (8, .int x1), (0, .ref 112), (1, .int x0_1), (2, .int x0_2), (3, .int x0_3), (4, .int x0_4), (5, .int x0_5), (6, .int x0_6), (7, .int x0_7)]) (h' := h11) rfl rfl rfl rfl rfl).trans (kI_cg fun x14 h13 => ?_)
    refine (es_cI (b := true) (k' := 150) (pc' := 185) (as := [.ref 107, .int x12, .int x14]) (S' := []) (L' := [(10, .int x7), (9, .int x5), (8, .int x1), (0, .ref 112), (1, .int x0_1), (2, .int x0_2), (3, .int x0_3), (4, .int x0_4), (5, .int x0_5), (6, .int x0_6), (7, .int x0_7)]) (h' := h13) rfl rfl rfl rfl rfl).trans (kI_cg fun x16 h15 => ?_)
    refine (es_st 3 (pc' := 66) (L' := [(7, .int (x0_7 + (1 : Int32))), (6, .int x16), (10, .int x7), (9, .int x5), (8, .int x1), (0, .ref 112), (1, .int x0_1), (2, .int x0_2), (3, .int x0_3), (4, .int x0_4), (5, .int x0_5)]) (S' := []) (h' := h15) rfl).trans ?_
    exact es_cut rfl rfl rfl
theorem sX8_choice_0 (B : Bool) (d : Nat) (hd : 4 ≤ d) (h : SG) : mS B d 173 [.ref 112] h = kI (mS B (d - 1) 161 [.ref 112] h) (fun x2 h1 => kI (mS B (d - 1) 158 [.ref 112, .int (0 : Int32)] h1) (fun x4 h3 => kI (mS B (d - 1) 158 [.ref 112, .int (1 : Int32)] h3) (fun x6 h5 => kI (mS B (d - 1) 158 [.ref 112, .int (2 : Int32)] h5) (fun x8 h7 => evS B d 173 31 [(0, .ref 112), (1, .int x2), (2, .int x4), (3, .int x6), (5, .int (0 : Int32)), (6, .int x8)] [] h7)))) := by
  obtain ⟨d, rfl⟩ : ∃ e, d = e + 4 := ⟨d - 4, by omega⟩
  show evS B (d + 4) 173 0 [(0, .ref 112)] [] h = _
  refine (es_st 1 (pc' := 1) (L' := [(0, .ref 112)]) (S' := [.ref 112]) (h' := h) rfl).trans ?_
  refine (es_cI (b := true) (k' := 161) (pc' := 4) (as := [.ref 112]) (S' := []) (L' := [(0, .ref 112)]) (h' := h) rfl rfl rfl rfl rfl).trans (kI_cg fun x2 h1 => ?_)
  refine (es_st 3 (pc' := 7) (L' := [(1, .int x2), (0, .ref 112)]) (S' := [.int (0 : Int32), .ref 112]) (h' := h1) rfl).trans ?_
  refine (es_cI (b := true) (k' := 158) (pc' := 10) (as := [.ref 112, .int (0 : Int32)]) (S' := []) (L' := [(1, .int x2), (0, .ref 112)]) (h' := h1) rfl rfl rfl rfl rfl).trans (kI_cg fun x4 h3 => ?_)
  refine (es_st 3 (pc' := 13) (L' := [(2, .int x4), (1, .int x2), (0, .ref 112)]) (S' := [.int (1 : Int32), .ref 112]) (h' := h3) rfl).trans ?_
  refine (es_cI (b := true) (k' := 158) (pc' := 16) (as := [.ref 112, .int (1 : Int32)]) (S' := []) (L' := [(2, .int x4), (1, .int x2), (0, .ref 112)]) (h' := h3) rfl rfl rfl rfl rfl).trans (kI_cg fun x6 h5 => ?_)
  refine (es_st 3 (pc' := 19) (L' := [(3, .int x6), (2, .int x4), (1, .int x2), (0, .ref 112)]) (S' := [.int (2 : Int32), .ref 112]) (h' := h5) rfl).trans ?_
  refine (es_cI (b := true) (k' := 158) (pc' := 22) (as := [.ref 112, .int (2 : Int32)]) (S' := []) (L' := [(3, .int x6), (2, .int x4), (1, .int x2), (0, .ref 112)]) (h' := h5) rfl rfl rfl rfl rfl).trans (kI_cg fun x8 h7 => ?_)
  refine (es_st 5 (pc' := 31) (L' := [(6, .int x8), (5, .int (0 : Int32)), (4, .int x8), (3, .int x6), (2, .int x4), (1, .int x2), (0, .ref 112)]) (S' := []) (h' := h7) rfl).trans ?_
  exact es_cut rfl rfl rfl
theorem sX8_choice_31 (B : Bool) (d : Nat) (hd : 4 ≤ d) (h : SG) (x0_1 : Int32) (x0_2 : Int32) (x0_3 : Int32) (x0_5 : Int32) (x0_6 : Int32) : evS B d 173 31 [(0, .ref 112), (1, .int x0_1), (2, .int x0_2), (3, .int x0_3), (5, .int x0_5), (6, .int x0_6)] [] h = if x0_3 ≤ x0_6 then evS B d 173 66 [(0, .ref 112), (1, .int x0_1), (2, .int x0_2), (3, .int x0_3), (5, .int x0_5), (6, .int (0 : Int32))] [] h else ob (rAt h 113 x0_6) (fun x1 => kI (mS B (d - 1) 150 [.ref 107, .int x0_5, .int x1] h) (fun x3 h2 => evS B d 173 31 [(0, .ref 112), (1, .int x0_1), (2, .int x0_2), (3, .int x0_3), (5, .int x3), (6, .int (x0_6 + (1 : Int32)))] [] h2)) := by
  obtain ⟨d, rfl⟩ : ∃ e, d = e + 4 := ⟨d - 4, by omega⟩
  refine (es_st 2 (pc' := 34) (L' := [(0, .ref 112), (1, .int x0_1), (2, .int x0_2), (3, .int x0_3), (5, .int x0_5), (6, .int x0_6)]) (S' := [.int x0_3, .int x0_6]) (h' := h) rfl).trans ?_
  refine (is_ge (t := 63) rfl rfl rfl).trans (if_cg ?_ ?_)
  · refine (es_st 2 (pc' := 66) (L' := [(6, .int (0 : Int32)), (0, .ref 112), (1, .int x0_1), (2, .int x0_2), (3, .int x0_3), (5, .int x0_5)]) (S' := []) (h' := h) rfl).trans ?_
    exact es_cut rfl rfl rfl
  · refine (es_st 6 (pc' := 49) (L' := [(0, .ref 112), (1, .int x0_1), (2, .int x0_2), (3, .int x0_3), (5, .int x0_5), (6, .int x0_6)]) (S' := [.int x0_6, .ref 113, .int x0_5, .ref 107]) (h' := h) rfl).trans ?_
    refine (es_ob (o := rAt h 113 x0_6) (pc' := 52) (L' := [(0, .ref 112), (1, .int x0_1), (2, .int x0_2), (3, .int x0_3), (5, .int x0_5), (6, .int x0_6)]) (S' := fun z => [.int z, .int x0_5, .ref 107]) (h' := fun z => h) rfl rfl rfl).trans (ob_cg fun x1 => ?_)
    refine (es_cI (b := true) (k' := 150) (pc' := 55) (as := [.ref 107, .int x0_5, .int x1]) (S' := []) (L' := [(0, .ref 112), (1, .int x0_1), (2, .int x0_2), (3, .int x0_3), (5, .int x0_5), (6, .int x0_6)]) (h' := h) rfl rfl rfl rfl rfl).trans (kI_cg fun x3 h2 => ?_)
    refine (es_st 3 (pc' := 31) (L' := [(6, .int (x0_6 + (1 : Int32))), (5, .int x3), (0, .ref 112), (1, .int x0_1), (2, .int x0_2), (3, .int x0_3)]) (S' := []) (h' := h2) rfl).trans ?_
    exact es_cut rfl rfl rfl
theorem sX8_choice_66 (B : Bool) (d : Nat) (hd : 4 ≤ d) (h : SG) (x0_1 : Int32) (x0_2 : Int32) (x0_3 : Int32) (x0_5 : Int32) (x0_6 : Int32) : evS B d 173 66 [(0, .ref 112), (1, .int x0_1), (2, .int x0_2), (3, .int x0_3), (5, .int x0_5), (6, .int x0_6)] [] h = if x0_1 ≤ x0_6 then kV (mS B (d - 1) 159 [.ref 112, .int (3 : Int32), .int x0_1] h) (fun h1 => some (.inl none, h1)) else ob (rAt h 113 (x0_3 + x0_6)) (fun x2 => ob (rAt h 113 (x0_2 + x0_6)) (fun x3 => kI (mS B (d - 1) 147 [.ref 107, .int x0_5, .int x2, .int x3] h) (fun x5 h4 => ob (rAdd h4 113 x5) (fun q6 => evS B d 173 66 [(0, .ref 112), (1, .int x0_1), (2, .int x0_2), (3, .int x0_3), (5, .int x0_5), (6, .int (x0_6 + (1 : Int32)))] [] q6.2)))) := by
  obtain ⟨d, rfl⟩ : ∃ e, d = e + 4 := ⟨d - 4, by omega⟩
  refine (es_st 2 (pc' := 69) (L' := [(0, .ref 112), (1, .int x0_1), (2, .int x0_2), (3, .int x0_3), (5, .int x0_5), (6, .int x0_6)]) (S' := [.int x0_1, .int x0_6]) (h' := h) rfl).trans ?_
  refine (is_ge (t := 117) rfl rfl rfl).trans (if_cg ?_ ?_)
  · refine (es_st 3 (pc' := 120) (L' := [(0, .ref 112), (1, .int x0_1), (2, .int x0_2), (3, .int x0_3), (5, .int x0_5), (6, .int x0_6)]) (S' := [.int x0_1, .int (3 : Int32), .ref 112]) (h' := h) rfl).trans ?_
    refine (es_cV (b := true) (k' := 159) (pc' := 123) (as := [.ref 112, .int (3 : Int32), .int x0_1]) (S' := []) (L' := [(0, .ref 112), (1, .int x0_1), (2, .int x0_2), (3, .int x0_3), (5, .int x0_5), (6, .int x0_6)]) (h' := h) rfl rfl rfl rfl rfl).trans (kV_cg fun h1 => ?_)
    exact es_fin rfl rfl rfl
  · refine (es_st 10 (pc' := 90) (L' := [(0, .ref 112), (1, .int x0_1), (2, .int x0_2), (3, .int x0_3), (5, .int x0_5), (6, .int x0_6)]) (S' := [.int (x0_3 + x0_6), .ref 113, .int x0_5, .ref 107, .ref 113]) (h' := h) rfl).trans ?_
    refine (es_ob (o := rAt h 113 (x0_3 + x0_6)) (pc' := 93) (L' := [(0, .ref 112), (1, .int x0_1), (2, .int x0_2), (3, .int x0_3), (5, .int x0_5), (6, .int x0_6)]) (S' := fun z => [.int z, .int x0_5, .ref 107, .ref 113]) (h' := fun z => h) rfl rfl rfl).trans (ob_cg fun x2 => ?_)
    refine (es_st 5 (pc' := 101) (L' := [(0, .ref 112), (1, .int x0_1), (2, .int x0_2), (3, .int x0_3), (5, .int x0_5), (6, .int x0_6)]) (S' := [.int (x0_2 + x0_6), .ref 113, .int x2, .int x0_5, .ref 107, .ref 113]) (h' := h) rfl).trans ?_
    refine (es_ob (o := rAt h 113 (x0_2 + x0_6)) (pc' := 104) (L' := [(0, .ref 112), (1, .int x0_1), (2, .int x0_2), (3, .int x0_3), (5, .int x0_5), (6, .int x0_6)]) (S' := fun z => [.int z, .int x2, .int x0_5, .ref 107, .ref 113]) (h' := fun z => h) rfl rfl rfl).trans (ob_cg fun x3 => ?_)
    refine (es_cI (b := true) (k' := 147) (pc' := 107) (as := [.ref 107, .int x0_5, .int x2, .int x3]) (S' := [.ref 113]) (L' := [(0, .ref 112), (1, .int x0_1), (2, .int x0_2), (3, .int x0_3), (5, .int x0_5), (6, .int x0_6)]) (h' := h) rfl rfl rfl rfl rfl).trans (kI_cg fun x5 h4 => ?_)
    refine (es_ob (o := rAdd h4 113 x5) (pc' := 110) (L' := [(0, .ref 112), (1, .int x0_1), (2, .int x0_2), (3, .int x0_3), (5, .int x0_5), (6, .int x0_6)]) (S' := fun z => [.int z.1]) (h' := fun z => z.2) rfl rfl rfl).trans (ob_cg fun q6 => ?_)
    refine (es_st 3 (pc' := 66) (L' := [(6, .int (x0_6 + (1 : Int32))), (0, .ref 112), (1, .int x0_1), (2, .int x0_2), (3, .int x0_3), (5, .int x0_5)]) (S' := []) (h' := q6.2) rfl).trans ?_
    exact es_cut rfl rfl rfl
theorem sX8_together_0 (B : Bool) (d : Nat) (hd : 4 ≤ d) (h : SG) (x0_1 : Int32) : mS B d 174 [.ref 112, .int x0_1] h = evS B d 174 4 [(0, .ref 112), (1, .int x0_1), (2, .int (0 : Int32)), (3, .int (0 : Int32))] [] h := by
  obtain ⟨d, rfl⟩ : ∃ e, d = e + 4 := ⟨d - 4, by omega⟩
  show evS B (d + 4) 174 0 [(0, .ref 112), (1, .int x0_1)] [] h = _
  refine (es_st 4 (pc' := 4) (L' := [(3, .int (0 : Int32)), (2, .int (0 : Int32)), (0, .ref 112), (1, .int x0_1)]) (S' := []) (h' := h) rfl).trans ?_
  exact es_cut rfl rfl rfl
theorem sX8_together_4 (B : Bool) (d : Nat) (hd : 4 ≤ d) (h : SG) (x0_1 : Int32) (x0_2 : Int32) (x0_3 : Int32) : evS B d 174 4 [(0, .ref 112), (1, .int x0_1), (2, .int x0_2), (3, .int x0_3)] [] h = if x0_1 ≤ x0_3 then kV (mS B (d - 1) 159 [.ref 112, .int x0_1, .int x0_2] h) (fun h1 => some (.inl none, h1)) else kI (mS B (d - 1) 158 [.ref 112, .int x0_3] h) (fun x3 h2 => ob (rAt h2 115 (((Int32.ofNat (sW h2 115).length) - (1 : Int32)) - x0_3)) (fun x4 => evS B d 174 39 [(0, .ref 112), (1, .int x0_1), (2, .int x0_2), (3, .int x0_3), (4, .int x3), (5, .int x4), (6, .int (0 : Int32))] [] h2)) := by
  obtain ⟨d, rfl⟩ : ∃ e, d = e + 4 := ⟨d - 4, by omega⟩
  refine (es_st 2 (pc' := 6) (L' := [(0, .ref 112), (1, .int x0_1), (2, .int x0_2), (3, .int x0_3)]) (S' := [.int x0_1, .int x0_3]) (h' := h) rfl).trans ?_
  refine (is_ge (t := 85) rfl rfl rfl).trans (if_cg ?_ ?_)
  · refine (es_st 3 (pc' := 88) (L' := [(0, .ref 112), (1, .int x0_1), (2, .int x0_2), (3, .int x0_3)]) (S' := [.int x0_2, .int x0_1, .ref 112]) (h' := h) rfl).trans ?_
    refine (es_cV (b := true) (k' := 159) (pc' := 91) (as := [.ref 112, .int x0_1, .int x0_2]) (S' := []) (L' := [(0, .ref 112), (1, .int x0_1), (2, .int x0_2), (3, .int x0_3)]) (h' := h) rfl rfl rfl rfl rfl).trans (kV_cg fun h1 => ?_)
    exact es_fin rfl rfl rfl
  · refine (es_st 2 (pc' := 11) (L' := [(0, .ref 112), (1, .int x0_1), (2, .int x0_2), (3, .int x0_3)]) (S' := [.int x0_3, .ref 112]) (h' := h) rfl).trans ?_
    refine (es_cI (b := true) (k' := 158) (pc' := 14) (as := [.ref 112, .int x0_3]) (S' := []) (L' := [(0, .ref 112), (1, .int x0_1), (2, .int x0_2), (3, .int x0_3)]) (h' := h) rfl rfl rfl rfl rfl).trans (kI_cg fun x3 h2 => ?_)
    refine (es_st 10 (pc' := 31) (L' := [(4, .int x3), (0, .ref 112), (1, .int x0_1), (2, .int x0_2), (3, .int x0_3)]) (S' := [.int (((Int32.ofNat (sW h2 115).length) - (1 : Int32)) - x0_3), .ref 115]) (h' := h2) rfl).trans ?_
    refine (es_ob (o := rAt h2 115 (((Int32.ofNat (sW h2 115).length) - (1 : Int32)) - x0_3)) (pc' := 34) (L' := [(4, .int x3), (0, .ref 112), (1, .int x0_1), (2, .int x0_2), (3, .int x0_3)]) (S' := fun z => [.int z]) (h' := fun z => h2) rfl rfl rfl).trans (ob_cg fun x4 => ?_)
    refine (es_st 3 (pc' := 39) (L' := [(6, .int (0 : Int32)), (5, .int x4), (4, .int x3), (0, .ref 112), (1, .int x0_1), (2, .int x0_2), (3, .int x0_3)]) (S' := []) (h' := h2) rfl).trans ?_
    exact es_cut rfl rfl rfl
theorem sX8_together_39 (B : Bool) (d : Nat) (hd : 4 ≤ d) (h : SG) (x0_1 : Int32) (x0_2 : Int32) (x0_3 : Int32) (x0_4 : Int32) (x0_5 : Int32) (x0_6 : Int32) : evS B d 174 39 [(0, .ref 112), (1, .int x0_1), (2, .int x0_2), (3, .int x0_3), (4, .int x0_4), (5, .int x0_5), (6, .int x0_6)] [] h = if x0_5 ≤ x0_6 then evS B d 174 4 [(0, .ref 112), (1, .int x0_1), (2, .int (x0_2 + x0_5)), (3, .int (x0_3 + (1 : Int32)))] [] h else ob (rAt h 113 ((x0_4 - x0_2) + x0_6)) (fun x1 => ob (rAdd h 113 x1) (fun q2 => evS B d 174 39 [(0, .ref 112), (1, .int x0_1), (2, .int x0_2), (3, .int x0_3), (4, .int x0_4), (5, .int x0_5), (6, .int (x0_6 + (1 : Int32)))] [] q2.2)) := by
  obtain ⟨d, rfl⟩ : ∃ e, d = e + 4 := ⟨d - 4, by omega⟩
  refine (es_st 2 (pc' := 43) (L' := [(0, .ref 112), (1, .int x0_1), (2, .int x0_2), (3, .int x0_3), (4, .int x0_4), (5, .int x0_5), (6, .int x0_6)]) (S' := [.int x0_5, .int x0_6]) (h' := h) rfl).trans ?_
  refine (is_ge (t := 74) rfl rfl rfl).trans (if_cg ?_ ?_)
  · refine (es_st 6 (pc' := 4) (L' := [(3, .int (x0_3 + (1 : Int32))), (2, .int (x0_2 + x0_5)), (0, .ref 112), (1, .int x0_1), (4, .int x0_4), (5, .int x0_5), (6, .int x0_6)]) (S' := []) (h' := h) rfl).trans ?_
    exact es_cut rfl rfl rfl
  · refine (es_st 9 (pc' := 61) (L' := [(0, .ref 112), (1, .int x0_1), (2, .int x0_2), (3, .int x0_3), (4, .int x0_4), (5, .int x0_5), (6, .int x0_6)]) (S' := [.int ((x0_4 - x0_2) + x0_6), .ref 113, .ref 113]) (h' := h) rfl).trans ?_
    refine (es_ob (o := rAt h 113 ((x0_4 - x0_2) + x0_6)) (pc' := 64) (L' := [(0, .ref 112), (1, .int x0_1), (2, .int x0_2), (3, .int x0_3), (4, .int x0_4), (5, .int x0_5), (6, .int x0_6)]) (S' := fun z => [.int z, .ref 113]) (h' := fun z => h) rfl rfl rfl).trans (ob_cg fun x1 => ?_)
    refine (es_ob (o := rAdd h 113 x1) (pc' := 67) (L' := [(0, .ref 112), (1, .int x0_1), (2, .int x0_2), (3, .int x0_3), (4, .int x0_4), (5, .int x0_5), (6, .int x0_6)]) (S' := fun z => [.int z.1]) (h' := fun z => z.2) rfl rfl rfl).trans (ob_cg fun q2 => ?_)
    refine (es_st 3 (pc' := 39) (L' := [(6, .int (x0_6 + (1 : Int32))), (0, .ref 112), (1, .int x0_1), (2, .int x0_2), (3, .int x0_3), (4, .int x0_4), (5, .int x0_5)]) (S' := []) (h' := q2.2) rfl).trans ?_
    exact es_cut rfl rfl rfl
theorem sX8_times_0 (B : Bool) (d : Nat) (hd : 4 ≤ d) (h : SG) (x0_1 : Int32) : mS B d 175 [.ref 112, .int x0_1] h = kI (mS B (d - 1) 161 [.ref 112] h) (fun x2 h1 => kI (mS B (d - 1) 158 [.ref 112, .int (0 : Int32)] h1) (fun x4 h3 => evS B d 175 14 [(0, .ref 112), (1, .int x0_1), (2, .int x2), (3, .int x4), (4, .int (0 : Int32))] [] h3)) := by
  obtain ⟨d, rfl⟩ : ∃ e, d = e + 4 := ⟨d - 4, by omega⟩
  show evS B (d + 4) 175 0 [(0, .ref 112), (1, .int x0_1)] [] h = _
  refine (es_st 1 (pc' := 1) (L' := [(0, .ref 112), (1, .int x0_1)]) (S' := [.ref 112]) (h' := h) rfl).trans ?_
  refine (es_cI (b := true) (k' := 161) (pc' := 4) (as := [.ref 112]) (S' := []) (L' := [(0, .ref 112), (1, .int x0_1)]) (h' := h) rfl rfl rfl rfl rfl).trans (kI_cg fun x2 h1 => ?_)
  refine (es_st 3 (pc' := 7) (L' := [(2, .int x2), (0, .ref 112), (1, .int x0_1)]) (S' := [.int (0 : Int32), .ref 112]) (h' := h1) rfl).trans ?_
  refine (es_cI (b := true) (k' := 158) (pc' := 10) (as := [.ref 112, .int (0 : Int32)]) (S' := []) (L' := [(2, .int x2), (0, .ref 112), (1, .int x0_1)]) (h' := h1) rfl rfl rfl rfl rfl).trans (kI_cg fun x4 h3 => ?_)
  refine (es_st 3 (pc' := 14) (L' := [(4, .int (0 : Int32)), (3, .int x4), (2, .int x2), (0, .ref 112), (1, .int x0_1)]) (S' := []) (h' := h3) rfl).trans ?_
  exact es_cut rfl rfl rfl
theorem sX8_times_14 (B : Bool) (d : Nat) (hd : 4 ≤ d) (h : SG) (x0_1 : Int32) (x0_2 : Int32) (x0_3 : Int32) (x0_4 : Int32) : evS B d 175 14 [(0, .ref 112), (1, .int x0_1), (2, .int x0_2), (3, .int x0_3), (4, .int x0_4)] [] h = if (x0_1 * x0_2) ≤ x0_4 then kV (mS B (d - 1) 159 [.ref 112, .int (1 : Int32), .int (x0_1 * x0_2)] h) (fun h1 => some (.inl none, h1)) else if x0_2 = 0 then none else ob (rAt h 113 (x0_3 + (x0_4 - x0_4 / x0_2 * x0_2))) (fun x2 => ob (rAdd h 113 x2) (fun q3 => evS B d 175 14 [(0, .ref 112), (1, .int x0_1), (2, .int x0_2), (3, .int x0_3), (4, .int (x0_4 + (1 : Int32)))] [] q3.2)) := by
  obtain ⟨d, rfl⟩ : ∃ e, d = e + 4 := ⟨d - 4, by omega⟩
  refine (es_st 4 (pc' := 19) (L' := [(0, .ref 112), (1, .int x0_1), (2, .int x0_2), (3, .int x0_3), (4, .int x0_4)]) (S' := [.int (x0_1 * x0_2), .int x0_4]) (h' := h) rfl).trans ?_
  refine (is_ge (t := 49) rfl rfl rfl).trans (if_cg ?_ ?_)
  · refine (es_st 5 (pc' := 54) (L' := [(0, .ref 112), (1, .int x0_1), (2, .int x0_2), (3, .int x0_3), (4, .int x0_4)]) (S' := [.int (x0_1 * x0_2), .int (1 : Int32), .ref 112]) (h' := h) rfl).trans ?_
    refine (es_cV (b := true) (k' := 159) (pc' := 57) (as := [.ref 112, .int (1 : Int32), .int (x0_1 * x0_2)]) (S' := []) (L' := [(0, .ref 112), (1, .int x0_1), (2, .int x0_2), (3, .int x0_3), (4, .int x0_4)]) (h' := h) rfl rfl rfl rfl rfl).trans (kV_cg fun h1 => ?_)
    exact es_fin rfl rfl rfl
  · refine (es_st 7 (pc' := 34) (L' := [(0, .ref 112), (1, .int x0_1), (2, .int x0_2), (3, .int x0_3), (4, .int x0_4)]) (S' := [.int x0_2, .int x0_4, .int x0_3, .ref 113, .ref 113]) (h' := h) rfl).trans ?_
    refine (es_ng (c := x0_2 = 0) (p2 := 35) (L' := [(0, .ref 112), (1, .int x0_1), (2, .int x0_2), (3, .int x0_3), (4, .int x0_4)]) (S' := [.int (x0_4 - x0_4 / x0_2 * x0_2), .int x0_3, .ref 113, .ref 113]) rfl rfl rfl).trans (if_cg rfl ?_)
    refine (es_st 1 (pc' := 36) (L' := [(0, .ref 112), (1, .int x0_1), (2, .int x0_2), (3, .int x0_3), (4, .int x0_4)]) (S' := [.int (x0_3 + (x0_4 - x0_4 / x0_2 * x0_2)), .ref 113, .ref 113]) (h' := h) rfl).trans ?_
    refine (es_ob (o := rAt h 113 (x0_3 + (x0_4 - x0_4 / x0_2 * x0_2))) (pc' := 39) (L' := [(0, .ref 112), (1, .int x0_1), (2, .int x0_2), (3, .int x0_3), (4, .int x0_4)]) (S' := fun z => [.int z, .ref 113]) (h' := fun z => h) rfl rfl rfl).trans (ob_cg fun x2 => ?_)
    refine (es_ob (o := rAdd h 113 x2) (pc' := 42) (L' := [(0, .ref 112), (1, .int x0_1), (2, .int x0_2), (3, .int x0_3), (4, .int x0_4)]) (S' := fun z => [.int z.1]) (h' := fun z => z.2) rfl rfl rfl).trans (ob_cg fun q3 => ?_)
    refine (es_st 3 (pc' := 14) (L' := [(4, .int (x0_4 + (1 : Int32))), (0, .ref 112), (1, .int x0_1), (2, .int x0_2), (3, .int x0_3)]) (S' := []) (h' := q3.2) rfl).trans ?_
    exact es_cut rfl rfl rfl
theorem sX9_begin_0 (B : Bool) (d : Nat) (h : SG) : mS B d 177 [.ref 144, .ref 40] h = some (.inl none, (uF (uF (uF h 144 1 (sF h 40 13)) 144 2 (0 : Int32)) 144 3 (0 : Int32))) := by
  show evS B d 177 0 [(0, .ref 144), (1, .ref 40)] [] h = _
  refine (es_st 10 (pc' := 18) (L' := [(0, .ref 144), (1, .ref 40)]) (S' := []) (h' := (uF (uF (uF h 144 1 (sF h 40 13)) 144 2 (0 : Int32)) 144 3 (0 : Int32))) rfl).trans ?_
  exact es_fin rfl rfl rfl
theorem sX9_reckon_0 (B : Bool) (d : Nat) (hd : 4 ≤ d) (h : SG) : mS B d 178 [.ref 144, .ref 40] h = if ixN (0 : Int32) 24000 = true then evS B d 178 9 [(0, .ref 144), (1, .ref 40), (2, .int (0 : Int32))] [] (uF h 145 (0 : Int32).toNatClampNeg ((0 : Int32).toInt8.toInt32)) else none := by
  obtain ⟨d, rfl⟩ : ∃ e, d = e + 4 := ⟨d - 4, by omega⟩
  show evS B (d + 4) 178 0 [(0, .ref 144), (1, .ref 40)] [] h = _
  refine (es_st 4 (pc' := 6) (L' := [(0, .ref 144), (1, .ref 40)]) (S' := [.int (0 : Int32), .int (0 : Int32), .ref 145]) (h' := h) rfl).trans ?_
  refine (es_ix (c := ixN (0 : Int32) 24000 = true) (x := (uF h 145 (0 : Int32).toNatClampNeg ((0 : Int32).toInt8.toInt32))) (pc' := 7) (L' := [(0, .ref 144), (1, .ref 40)]) (S' := fun z => []) (h' := fun z => z) rfl rfl rfl).trans (if_cgn ?_)
  refine (es_st 2 (pc' := 9) (L' := [(2, .int (0 : Int32)), (0, .ref 144), (1, .ref 40)]) (S' := []) (h' := (uF h 145 (0 : Int32).toNatClampNeg ((0 : Int32).toInt8.toInt32))) rfl).trans ?_
  exact es_cut rfl rfl rfl
theorem sX9_reckon_9 (B : Bool) (d : Nat) (hd : 4 ≤ d) (h : SG) (x0_2 : Int32) : evS B d 178 9 [(0, .ref 144), (1, .ref 40), (2, .int x0_2)] [] h = if (Int32.ofNat (sW h 77).length) ≤ x0_2 then evS B d 178 50 [(0, .ref 144), (1, .ref 40), (2, .int (0 : Int32))] [] h else ob (rAt h 77 x0_2) (fun x1 => if ixN x1 24000 = true then evS B d 178 9 [(0, .ref 144), (1, .ref 40), (2, .int (x0_2 + (1 : Int32)))] [] (uF h 145 x1.toNatClampNeg (((((sF h 144 2) >>> (x0_2 &&& 31)) &&& (1 : Int32)).toInt8.toInt32).toInt8.toInt32)) else none) := by
  obtain ⟨d, rfl⟩ : ∃ e, d = e + 4 := ⟨d - 4, by omega⟩
  refine (es_st 4 (pc' := 17) (L' := [(0, .ref 144), (1, .ref 40), (2, .int x0_2)]) (S' := [.int (Int32.ofNat (sW h 77).length), .int x0_2]) (h' := h) rfl).trans ?_
  refine (is_ge (t := 48) rfl rfl rfl).trans (if_cg ?_ ?_)
  · refine (es_st 2 (pc' := 50) (L' := [(2, .int (0 : Int32)), (0, .ref 144), (1, .ref 40)]) (S' := []) (h' := h) rfl).trans ?_
    exact es_cut rfl rfl rfl
  · refine (es_st 5 (pc' := 29) (L' := [(0, .ref 144), (1, .ref 40), (2, .int x0_2)]) (S' := [.int x0_2, .ref 77, .ref 145]) (h' := h) rfl).trans ?_
    refine (es_ob (o := rAt h 77 x0_2) (pc' := 32) (L' := [(0, .ref 144), (1, .ref 40), (2, .int x0_2)]) (S' := fun z => [.int z, .ref 145]) (h' := fun z => h) rfl rfl rfl).trans (ob_cg fun x1 => ?_)
    refine (es_st 7 (pc' := 41) (L' := [(0, .ref 144), (1, .ref 40), (2, .int x0_2)]) (S' := [.int (((sF h 144 2) >>> (x0_2 &&& 31)) &&& (1 : Int32)).toInt8.toInt32, .int x1, .ref 145]) (h' := h) rfl).trans ?_
    refine (es_ix (c := ixN x1 24000 = true) (x := (uF h 145 x1.toNatClampNeg (((((sF h 144 2) >>> (x0_2 &&& 31)) &&& (1 : Int32)).toInt8.toInt32).toInt8.toInt32))) (pc' := 42) (L' := [(0, .ref 144), (1, .ref 40), (2, .int x0_2)]) (S' := fun z => []) (h' := fun z => z) rfl rfl rfl).trans (if_cgn ?_)
    refine (es_st 2 (pc' := 9) (L' := [(2, .int (x0_2 + (1 : Int32))), (0, .ref 144), (1, .ref 40)]) (S' := []) (h' := (uF h 145 x1.toNatClampNeg (((((sF h 144 2) >>> (x0_2 &&& 31)) &&& (1 : Int32)).toInt8.toInt32).toInt8.toInt32))) rfl).trans ?_
    exact es_cut rfl rfl rfl
theorem sX9_reckon_50 (B : Bool) (d : Nat) (hd : 4 ≤ d) (h : SG) (x0_2 : Int32) : evS B d 178 50 [(0, .ref 144), (1, .ref 40), (2, .int x0_2)] [] h = if (Int32.ofNat (sW h 79).length) ≤ x0_2 then evS B d 178 91 [(0, .ref 144), (1, .ref 40), (2, .int (1 : Int32))] [] h else ob (rAt h 79 x0_2) (fun x1 => if ixN x1 24000 = true then evS B d 178 50 [(0, .ref 144), (1, .ref 40), (2, .int (x0_2 + (1 : Int32)))] [] (uF h 145 x1.toNatClampNeg (((((sF h 144 1) >>> (x0_2 &&& 31)) &&& (1 : Int32)).toInt8.toInt32).toInt8.toInt32)) else none) := by
  obtain ⟨d, rfl⟩ : ∃ e, d = e + 4 := ⟨d - 4, by omega⟩
  refine (es_st 4 (pc' := 58) (L' := [(0, .ref 144), (1, .ref 40), (2, .int x0_2)]) (S' := [.int (Int32.ofNat (sW h 79).length), .int x0_2]) (h' := h) rfl).trans ?_
  refine (is_ge (t := 89) rfl rfl rfl).trans (if_cg ?_ ?_)
  · refine (es_st 2 (pc' := 91) (L' := [(2, .int (1 : Int32)), (0, .ref 144), (1, .ref 40)]) (S' := []) (h' := h) rfl).trans ?_
    exact es_cut rfl rfl rfl
  · refine (es_st 5 (pc' := 70) (L' := [(0, .ref 144), (1, .ref 40), (2, .int x0_2)]) (S' := [.int x0_2, .ref 79, .ref 145]) (h' := h) rfl).trans ?_
    refine (es_ob (o := rAt h 79 x0_2) (pc' := 73) (L' := [(0, .ref 144), (1, .ref 40), (2, .int x0_2)]) (S' := fun z => [.int z, .ref 145]) (h' := fun z => h) rfl rfl rfl).trans (ob_cg fun x1 => ?_)
    refine (es_st 7 (pc' := 82) (L' := [(0, .ref 144), (1, .ref 40), (2, .int x0_2)]) (S' := [.int (((sF h 144 1) >>> (x0_2 &&& 31)) &&& (1 : Int32)).toInt8.toInt32, .int x1, .ref 145]) (h' := h) rfl).trans ?_
    refine (es_ix (c := ixN x1 24000 = true) (x := (uF h 145 x1.toNatClampNeg (((((sF h 144 1) >>> (x0_2 &&& 31)) &&& (1 : Int32)).toInt8.toInt32).toInt8.toInt32))) (pc' := 83) (L' := [(0, .ref 144), (1, .ref 40), (2, .int x0_2)]) (S' := fun z => []) (h' := fun z => z) rfl rfl rfl).trans (if_cgn ?_)
    refine (es_st 2 (pc' := 50) (L' := [(2, .int (x0_2 + (1 : Int32))), (0, .ref 144), (1, .ref 40)]) (S' := []) (h' := (uF h 145 x1.toNatClampNeg (((((sF h 144 1) >>> (x0_2 &&& 31)) &&& (1 : Int32)).toInt8.toInt32).toInt8.toInt32))) rfl).trans ?_
    exact es_cut rfl rfl rfl
theorem sX9_reckon_91 (B : Bool) (d : Nat) (hd : 4 ≤ d) (h : SG) (x0_2 : Int32) : evS B d 178 91 [(0, .ref 144), (1, .ref 40), (2, .int x0_2)] [] h = if (sF h 55 4) ≤ x0_2 then some (.inl none, h) else kI (mS B (d - 1) 152 [.ref 55, .int x0_2] h) (fun x2 h1 => if x2 = 0 then if ixN x0_2 24000 = true then kI (mS B (d - 1) 179 [.ref 144, .int (sF h1 56 x0_2.toNatClampNeg)] h1) (fun x4 h3 => if ixN x0_2 24000 = true then kI (mS B (d - 1) 179 [.ref 144, .int (sF h3 57 x0_2.toNatClampNeg)] h3) (fun x6 h5 => if ixN x0_2 24000 = true then evS B d 178 91 [(0, .ref 144), (1, .ref 40), (2, .int (x0_2 + (1 : Int32)))] [] (uF h5 145 x0_2.toNatClampNeg (((x4 &&& x6).toInt8.toInt32).toInt8.toInt32)) else none) else none) else none else evS B d 178 91 [(0, .ref 144), (1, .ref 40), (2, .int (x0_2 + (1 : Int32)))] [] h1) := by
  obtain ⟨d, rfl⟩ : ∃ e, d = e + 4 := ⟨d - 4, by omega⟩
  refine (es_st 4 (pc' := 99) (L' := [(0, .ref 144), (1, .ref 40), (2, .int x0_2)]) (S' := [.int (sF h 55 4), .int x0_2]) (h' := h) rfl).trans ?_
  refine (is_ge (t := 153) rfl rfl rfl).trans (if_cg ?_ ?_)
  · exact es_fin rfl rfl rfl
  · refine (es_st 3 (pc' := 107) (L' := [(0, .ref 144), (1, .ref 40), (2, .int x0_2)]) (S' := [.int x0_2, .ref 55]) (h' := h) rfl).trans ?_
    refine (es_cI (b := true) (k' := 152) (pc' := 110) (as := [.ref 55, .int x0_2]) (S' := []) (L' := [(0, .ref 144), (1, .ref 40), (2, .int x0_2)]) (h' := h) rfl rfl rfl rfl rfl).trans (kI_cg fun x2 h1 => ?_)
    refine (zs_ne (t := 147) rfl rfl rfl).trans (if_cg ?_ ?_)
    · refine (es_st 8 (pc' := 127) (L' := [(0, .ref 144), (1, .ref 40), (2, .int x0_2)]) (S' := [.int x0_2, .ref 56, .ref 144, .int x0_2, .ref 145]) (h' := h1) rfl).trans ?_
      refine (es_ix (c := ixN x0_2 24000 = true) (x := (sF h1 56 x0_2.toNatClampNeg)) (pc' := 128) (L' := [(0, .ref 144), (1, .ref 40), (2, .int x0_2)]) (S' := fun z => [.int z, .ref 144, .int x0_2, .ref 145]) (h' := fun z => h1) rfl rfl rfl).trans (if_cgn ?_)
      refine (es_cI (b := true) (k' := 179) (pc' := 131) (as := [.ref 144, .int (sF h1 56 x0_2.toNatClampNeg)]) (S' := [.int x0_2, .ref 145]) (L' := [(0, .ref 144), (1, .ref 40), (2, .int x0_2)]) (h' := h1) rfl rfl rfl rfl rfl).trans (kI_cg fun x4 h3 => ?_)
      refine (es_st 5 (pc' := 140) (L' := [(0, .ref 144), (1, .ref 40), (2, .int x0_2)]) (S' := [.int x0_2, .ref 57, .ref 144, .int x4, .int x0_2, .ref 145]) (h' := h3) rfl).trans ?_
      refine (es_ix (c := ixN x0_2 24000 = true) (x := (sF h3 57 x0_2.toNatClampNeg)) (pc' := 141) (L' := [(0, .ref 144), (1, .ref 40), (2, .int x0_2)]) (S' := fun z => [.int z, .ref 144, .int x4, .int x0_2, .ref 145]) (h' := fun z => h3) rfl rfl rfl).trans (if_cgn ?_)
      refine (es_cI (b := true) (k' := 179) (pc' := 144) (as := [.ref 144, .int (sF h3 57 x0_2.toNatClampNeg)]) (S' := [.int x4, .int x0_2, .ref 145]) (L' := [(0, .ref 144), (1, .ref 40), (2, .int x0_2)]) (h' := h3) rfl rfl rfl rfl rfl).trans (kI_cg fun x6 h5 => ?_)
      refine (es_st 2 (pc' := 146) (L' := [(0, .ref 144), (1, .ref 40), (2, .int x0_2)]) (S' := [.int (x4 &&& x6).toInt8.toInt32, .int x0_2, .ref 145]) (h' := h5) rfl).trans ?_
      refine (es_ix (c := ixN x0_2 24000 = true) (x := (uF h5 145 x0_2.toNatClampNeg (((x4 &&& x6).toInt8.toInt32).toInt8.toInt32))) (pc' := 147) (L' := [(0, .ref 144), (1, .ref 40), (2, .int x0_2)]) (S' := fun z => []) (h' := fun z => z) rfl rfl rfl).trans (if_cgn ?_)
      refine (es_st 2 (pc' := 91) (L' := [(2, .int (x0_2 + (1 : Int32))), (0, .ref 144), (1, .ref 40)]) (S' := []) (h' := (uF h5 145 x0_2.toNatClampNeg (((x4 &&& x6).toInt8.toInt32).toInt8.toInt32))) rfl).trans ?_
      exact es_cut rfl rfl rfl
    · refine (es_st 2 (pc' := 91) (L' := [(2, .int (x0_2 + (1 : Int32))), (0, .ref 144), (1, .ref 40)]) (S' := []) (h' := h1) rfl).trans ?_
      exact es_cut rfl rfl rfl
theorem sX9_bit_0 (B : Bool) (d : Nat) (h : SG) (x0_1 : Int32) : mS B d 179 [.ref 144, .int x0_1] h = if ixN (x0_1 >>> ((1 : Int32) &&& 31)) 24000 = true then some (.inl (some (.int ((sF h 145 (x0_1 >>> ((1 : Int32) &&& 31)).toNatClampNeg) ^^^ (x0_1 &&& (1 : Int32))))), h) else none := by
  show evS B d 179 0 [(0, .ref 144), (1, .int x0_1)] [] h = _
  refine (es_st 5 (pc' := 7) (L' := [(0, .ref 144), (1, .int x0_1)]) (S' := [.int (x0_1 >>> ((1 : Int32) &&& 31)), .ref 145]) (h' := h) rfl).trans ?_
  refine (es_ix (c := ixN (x0_1 >>> ((1 : Int32) &&& 31)) 24000 = true) (x := (sF h 145 (x0_1 >>> ((1 : Int32) &&& 31)).toNatClampNeg)) (pc' := 8) (L' := [(0, .ref 144), (1, .int x0_1)]) (S' := fun z => [.int z]) (h' := fun z => h) rfl rfl rfl).trans (if_cgn ?_)
  refine (es_st 4 (pc' := 12) (L' := [(0, .ref 144), (1, .int x0_1)]) (S' := [.int ((sF h 145 (x0_1 >>> ((1 : Int32) &&& 31)).toNatClampNeg) ^^^ (x0_1 &&& (1 : Int32)))]) (h' := h) rfl).trans ?_
  exact es_fin rfl rfl rfl
theorem sX9_next_0 (B : Bool) (d : Nat) (hd : 4 ≤ d) (h : SG) : mS B d 180 [.ref 144, .ref 40] h = evS B d 180 4 [(0, .ref 144), (1, .ref 40), (2, .int (0 : Int32)), (3, .int (0 : Int32))] [] h := by
  obtain ⟨d, rfl⟩ : ∃ e, d = e + 4 := ⟨d - 4, by omega⟩
  show evS B (d + 4) 180 0 [(0, .ref 144), (1, .ref 40)] [] h = _
  refine (es_st 4 (pc' := 4) (L' := [(3, .int (0 : Int32)), (2, .int (0 : Int32)), (0, .ref 144), (1, .ref 40)]) (S' := []) (h' := h) rfl).trans ?_
  exact es_cut rfl rfl rfl
theorem sX9_next_4 (B : Bool) (d : Nat) (hd : 4 ≤ d) (h : SG) (x0_2 : Int32) (x0_3 : Int32) : evS B d 180 4 [(0, .ref 144), (1, .ref 40), (2, .int x0_2), (3, .int x0_3)] [] h = if (Int32.ofNat (sW h 81).length) ≤ x0_3 then some (.inl none, (uF (uF h 144 1 x0_2) 144 3 ((sF (uF h 144 1 x0_2) 144 3) + (1 : Int32)))) else ob (rAt h 81 x0_3) (fun x1 => kI (mS B (d - 1) 179 [.ref 144, .int x1] h) (fun x3 h2 => evS B d 180 4 [(0, .ref 144), (1, .ref 40), (2, .int (x0_2 ||| (x3 <<< (x0_3 &&& 31)))), (3, .int (x0_3 + (1 : Int32)))] [] h2)) := by
  obtain ⟨d, rfl⟩ : ∃ e, d = e + 4 := ⟨d - 4, by omega⟩
  refine (es_st 4 (pc' := 12) (L' := [(0, .ref 144), (1, .ref 40), (2, .int x0_2), (3, .int x0_3)]) (S' := [.int (Int32.ofNat (sW h 81).length), .int x0_3]) (h' := h) rfl).trans ?_
  refine (is_ge (t := 38) rfl rfl rfl).trans (if_cg ?_ ?_)
  · refine (es_st 9 (pc' := 53) (L' := [(0, .ref 144), (1, .ref 40), (2, .int x0_2), (3, .int x0_3)]) (S' := []) (h' := (uF (uF h 144 1 x0_2) 144 3 ((sF (uF h 144 1 x0_2) 144 3) + (1 : Int32)))) rfl).trans ?_
    exact es_fin rfl rfl rfl
  · refine (es_st 5 (pc' := 22) (L' := [(0, .ref 144), (1, .ref 40), (2, .int x0_2), (3, .int x0_3)]) (S' := [.int x0_3, .ref 81, .ref 144, .int x0_2]) (h' := h) rfl).trans ?_
    refine (es_ob (o := rAt h 81 x0_3) (pc' := 25) (L' := [(0, .ref 144), (1, .ref 40), (2, .int x0_2), (3, .int x0_3)]) (S' := fun z => [.int z, .ref 144, .int x0_2]) (h' := fun z => h) rfl rfl rfl).trans (ob_cg fun x1 => ?_)
    refine (es_cI (b := true) (k' := 179) (pc' := 28) (as := [.ref 144, .int x1]) (S' := [.int x0_2]) (L' := [(0, .ref 144), (1, .ref 40), (2, .int x0_2), (3, .int x0_3)]) (h' := h) rfl rfl rfl rfl rfl).trans (kI_cg fun x3 h2 => ?_)
    refine (es_st 6 (pc' := 4) (L' := [(3, .int (x0_3 + (1 : Int32))), (2, .int (x0_2 ||| (x3 <<< (x0_3 &&& 31)))), (0, .ref 144), (1, .ref 40)]) (S' := []) (h' := h2) rfl).trans ?_
    exact es_cut rfl rfl rfl
theorem sX9_value_0 (B : Bool) (d : Nat) (hd : 4 ≤ d) (h : SG) (x0_2 : Int32) : mS B d 181 [.ref 144, .ref 40, .int x0_2] h = evS B d 181 5 [(0, .ref 144), (1, .ref 40), (2, .int x0_2), (3, .long (0 : Int64)), (5, .int (0 : Int32))] [] h := by
  obtain ⟨d, rfl⟩ : ∃ e, d = e + 4 := ⟨d - 4, by omega⟩
  show evS B (d + 4) 181 0 [(0, .ref 144), (1, .ref 40), (2, .int x0_2)] [] h = _
  refine (es_st 4 (pc' := 5) (L' := [(5, .int (0 : Int32)), (3, .long (0 : Int64)), (0, .ref 144), (1, .ref 40), (2, .int x0_2)]) (S' := []) (h' := h) rfl).trans ?_
  exact es_cut rfl rfl rfl
theorem sX9_value_5 (B : Bool) (d : Nat) (hd : 4 ≤ d) (h : SG) (x0_2 : Int32) (y0_3 : Int64) (x0_5 : Int32) : evS B d 181 5 [(0, .ref 144), (1, .ref 40), (2, .int x0_2), (3, .long y0_3), (5, .int x0_5)] [] h = kI (mS B (d - 1) 115 [.ref 40, .int x0_2] h) (fun x2 h1 => if x2 ≤ x0_5 then some (.inl (some (.long y0_3)), h1) else kI (mS B (d - 1) 116 [.ref 40, .int x0_2] h1) (fun x4 h3 => ob (rAt h3 69 (x4 + x0_5)) (fun x5 => kI (mS B (d - 1) 179 [.ref 144, .int x5] h3) (fun x7 h6 => evS B d 181 5 [(0, .ref 144), (1, .ref 40), (2, .int x0_2), (3, .long (y0_3 ||| (x7.toInt64 <<< (x0_5.toInt64 &&& 63)))), (5, .int (x0_5 + (1 : Int32)))] [] h6)))) := by
  obtain ⟨d, rfl⟩ : ∃ e, d = e + 4 := ⟨d - 4, by omega⟩
  refine (es_st 3 (pc' := 9) (L' := [(0, .ref 144), (1, .ref 40), (2, .int x0_2), (3, .long y0_3), (5, .int x0_5)]) (S' := [.int x0_2, .ref 40, .int x0_5]) (h' := h) rfl).trans ?_
  refine (es_cI (b := true) (k' := 115) (pc' := 12) (as := [.ref 40, .int x0_2]) (S' := [.int x0_5]) (L' := [(0, .ref 144), (1, .ref 40), (2, .int x0_2), (3, .long y0_3), (5, .int x0_5)]) (h' := h) rfl rfl rfl rfl rfl).trans (kI_cg fun x2 h1 => ?_)
  refine (is_ge (t := 47) rfl rfl rfl).trans (if_cg ?_ ?_)
  · refine (es_st 1 (pc' := 48) (L' := [(0, .ref 144), (1, .ref 40), (2, .int x0_2), (3, .long y0_3), (5, .int x0_5)]) (S' := [.long y0_3]) (h' := h1) rfl).trans ?_
    exact es_fin rfl rfl rfl
  · refine (es_st 6 (pc' := 23) (L' := [(0, .ref 144), (1, .ref 40), (2, .int x0_2), (3, .long y0_3), (5, .int x0_5)]) (S' := [.int x0_2, .ref 40, .ref 69, .ref 144, .long y0_3]) (h' := h1) rfl).trans ?_
    refine (es_cI (b := true) (k' := 116) (pc' := 26) (as := [.ref 40, .int x0_2]) (S' := [.ref 69, .ref 144, .long y0_3]) (L' := [(0, .ref 144), (1, .ref 40), (2, .int x0_2), (3, .long y0_3), (5, .int x0_5)]) (h' := h1) rfl rfl rfl rfl rfl).trans (kI_cg fun x4 h3 => ?_)
    refine (es_st 2 (pc' := 29) (L' := [(0, .ref 144), (1, .ref 40), (2, .int x0_2), (3, .long y0_3), (5, .int x0_5)]) (S' := [.int (x4 + x0_5), .ref 69, .ref 144, .long y0_3]) (h' := h3) rfl).trans ?_
    refine (es_ob (o := rAt h3 69 (x4 + x0_5)) (pc' := 32) (L' := [(0, .ref 144), (1, .ref 40), (2, .int x0_2), (3, .long y0_3), (5, .int x0_5)]) (S' := fun z => [.int z, .ref 144, .long y0_3]) (h' := fun z => h3) rfl rfl rfl).trans (ob_cg fun x5 => ?_)
    refine (es_cI (b := true) (k' := 179) (pc' := 35) (as := [.ref 144, .int x5]) (S' := [.long y0_3]) (L' := [(0, .ref 144), (1, .ref 40), (2, .int x0_2), (3, .long y0_3), (5, .int x0_5)]) (h' := h3) rfl rfl rfl rfl rfl).trans (kI_cg fun x7 h6 => ?_)
    refine (es_st 7 (pc' := 5) (L' := [(5, .int (x0_5 + (1 : Int32))), (3, .long (y0_3 ||| (x7.toInt64 <<< (x0_5.toInt64 &&& 63)))), (0, .ref 144), (1, .ref 40), (2, .int x0_2)]) (S' := []) (h' := h6) rfl).trans ?_
    exact es_cut rfl rfl rfl
