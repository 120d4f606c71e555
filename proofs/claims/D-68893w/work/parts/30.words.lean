/-! what the tables say of links, methods, classes -/
set_option maxRecDepth 100000
def oS (w : Nat) : String := match w with
  | 1 => RX1
  | 2 => RX2
  | 3 => RX3
  | 4 => RX4
  | 5 => RX5
  | 6 => RX6
  | 7 => RX7
  | 8 => RX8
  | 9 => RX9
  | 10 => RX10
  | 11 => RJ10
  | _ => RX0
def clS : List vw_C := [(RJ3, TJ3, 0), (RX1, TX1, 7), (RX2, TX2, 11), (RX3, TX3, 11), (RX4, TX4, 2), (RX5, TX5, 25), (RX6, TX6, 7), (RX7, TX7, 5), (RX8, TX8, 3), (RX9, TX9, 4), (RX10, TX10, 91), (RJ4, TJ4, 0), (RJ5, TJ5, 0), (RJ11, TJ11, 0)]
def CI (c : Nat) : vw_C := match c with
  | 1 => (RX1, TX1, 7)
  | 2 => (RX2, TX2, 11)
  | 3 => (RX3, TX3, 11)
  | 4 => (RX4, TX4, 2)
  | 5 => (RX5, TX5, 25)
  | 6 => (RX6, TX6, 7)
  | 7 => (RX7, TX7, 5)
  | 8 => (RX8, TX8, 3)
  | 9 => (RX9, TX9, 4)
  | 10 => (RX10, TX10, 91)
  | 11 => (RJ4, TJ4, 0)
  | 12 => (RJ5, TJ5, 0)
  | 13 => (RJ11, TJ11, 0)
  | _ => (RJ3, TJ3, 0)
def tyC (c : Nat) : Nat → FieldType := match c with
  | 1 => tyX1
  | 2 => tyX2
  | 3 => tyX3
  | 4 => tyX4
  | 5 => tyX5
  | 6 => tyX6
  | 7 => tyX7
  | 8 => tyX8
  | 9 => tyX9
  | 10 => tyX10
  | _ => fun _ => .int
theorem clS_at : ∀ c, c < 14 → clS[c]? = some (CI c)
  | 0, _ => rfl
  | 1, _ => rfl
  | 2, _ => rfl
  | 3, _ => rfl
  | 4, _ => rfl
  | 5, _ => rfl
  | 6, _ => rfl
  | 7, _ => rfl
  | 8, _ => rfl
  | 9, _ => rfl
  | 10, _ => rfl
  | 11, _ => rfl
  | 12, _ => rfl
  | 13, _ => rfl
  | n + 14, h => absurd h (by omega)
theorem in_C : ∀ c, c < 14 → ∀ w ∈ u_ws (CI c).1 (CI c).2.1 (CI c).2.2, w ∈ lw_all
  | 0, _ => fun _ h => absurd h (List.not_mem_nil)
  | 1, _ => in_X1
  | 2, _ => in_X2
  | 3, _ => in_X3
  | 4, _ => in_X4
  | 5, _ => in_X5
  | 6, _ => in_X6
  | 7, _ => in_X7
  | 8, _ => in_X8
  | 9, _ => in_X9
  | 10, _ => in_X10
  | 11, _ => fun _ h => absurd h (List.not_mem_nil)
  | 12, _ => fun _ h => absurd h (List.not_mem_nil)
  | 13, _ => fun _ h => absurd h (List.not_mem_nil)
  | n + 14, h => absurd h (by omega)
theorem ty_C : ∀ c, c < 14 → ∀ k, k < (CI c).2.2 → parseFieldDescriptor ((CI c).2.1 k).2.2.1 = some (tyC c k)
  | 0, _ => fun _ h => absurd h (Nat.not_lt_zero _)
  | 1, _ => tyX1_ok
  | 2, _ => tyX2_ok
  | 3, _ => tyX3_ok
  | 4, _ => tyX4_ok
  | 5, _ => tyX5_ok
  | 6, _ => tyX6_ok
  | 7, _ => tyX7_ok
  | 8, _ => tyX8_ok
  | 9, _ => tyX9_ok
  | 10, _ => tyX10_ok
  | 11, _ => fun _ h => absurd h (Nat.not_lt_zero _)
  | 12, _ => fun _ h => absurd h (Nat.not_lt_zero _)
  | 13, _ => fun _ h => absurd h (Nat.not_lt_zero _)
  | n + 14, h => absurd h (by omega)
theorem nm_C : ∀ c, c < 14 → ∀ a, a < (CI c).2.2 → ∀ b, b < (CI c).2.2 → a ≠ b → ((CI c).2.1 a).2.1 ≠ ((CI c).2.1 b).2.1
  | 0, _ => fun _ h => absurd h (Nat.not_lt_zero _)
  | 1, _ => nmX1
  | 2, _ => nmX2
  | 3, _ => nmX3
  | 4, _ => nmX4
  | 5, _ => nmX5
  | 6, _ => nmX6
  | 7, _ => nmX7
  | 8, _ => nmX8
  | 9, _ => nmX9
  | 10, _ => nmX10
  | 11, _ => fun _ h => absurd h (Nat.not_lt_zero _)
  | 12, _ => fun _ h => absurd h (Nat.not_lt_zero _)
  | 13, _ => fun _ h => absurd h (Nat.not_lt_zero _)
  | n + 14, h => absurd h (by omega)
/-- a field's link: of the class or of a nest mate; its kind; whether it is final -/
def OKF (w n : Nat) (q : Nat × Nat × Nat × Bool) : Prop := q.1 < 14 ∧ q.2.1 < (CI q.1).2.2 ∧
  (Cond.fieldLink (oS w) n ((CI q.1).2.1 q.2.1).1 ((CI q.1).2.1 q.2.1).2.1 ((CI q.1).2.1 q.2.1).2.2.1 ∈ lw_all ∨ ∃ host, Cond.fieldLinkNest (oS w) n ((CI q.1).2.1 q.2.1).1 ((CI q.1).2.1 q.2.1).2.1 ((CI q.1).2.1 q.2.1).2.2.1 host ∈ lw_tbl ∧ oS w ≠ (CI q.1).1) ∧
  ((q.2.2.1 = 0 ∧ tyC q.1 q.2.1 = .int) ∨ (q.2.2.1 = 3 ∧ tyC q.1 q.2.1 = .boolean) ∨ (q.2.2.1 = 1 ∧ tyC q.1 q.2.1 = .long) ∨ (q.2.2.1 = 2 ∧ ((∃ C, tyC q.1 q.2.1 = .object C) ∨ ∃ t, tyC q.1 q.2.1 = .array t))) ∧
  ((CI q.1).2.1 q.2.1).2.2.2 = q.2.2.2 ∧ (q.2.2.2 = true → ((CI q.1).2.1 q.2.1).1 = (CI q.1).1)
theorem okFl0 : ∀ e ∈ fLs 0, OKF 0 e.1 e.2 := fun _ h => absurd h List.not_mem_nil
theorem okF1_10 : OKF 1 10 (1, 0, 2, true) := ⟨by decide, by decide, Or.inl q610, Or.inr (Or.inr (Or.inr ⟨rfl, Or.inl ⟨_, rfl⟩⟩)), rfl, fun _ => rfl⟩
theorem okF1_21 : OKF 1 21 (1, 1, 2, true) := ⟨by decide, by decide, Or.inl q611, Or.inr (Or.inr (Or.inr ⟨rfl, Or.inl ⟨_, rfl⟩⟩)), rfl, fun _ => rfl⟩
theorem okF1_28 : OKF 1 28 (1, 2, 2, false) := ⟨by decide, by decide, Or.inl q612, Or.inr (Or.inr (Or.inr ⟨rfl, Or.inl ⟨_, rfl⟩⟩)), rfl, fun _ => rfl⟩
theorem okF1_32 : OKF 1 32 (1, 3, 2, false) := ⟨by decide, by decide, Or.inl q613, Or.inr (Or.inr (Or.inr ⟨rfl, Or.inl ⟨_, rfl⟩⟩)), rfl, fun _ => rfl⟩
theorem okF1_38 : OKF 1 38 (1, 5, 2, true) := ⟨by decide, by decide, Or.inl q615, Or.inr (Or.inr (Or.inr ⟨rfl, Or.inl ⟨_, rfl⟩⟩)), rfl, fun _ => rfl⟩
theorem okF1_42 : OKF 1 42 (1, 4, 3, false) := ⟨by decide, by decide, Or.inl q614, Or.inr (Or.inl ⟨rfl, rfl⟩), rfl, fun _ => rfl⟩
theorem okF1_61 : OKF 1 61 (5, 5, 2, true) := ⟨by decide, by decide, Or.inr ⟨_, q509, by decide +kernel⟩, Or.inr (Or.inr (Or.inr ⟨rfl, Or.inl ⟨_, rfl⟩⟩)), rfl, fun _ => rfl⟩
theorem okF1_65 : OKF 1 65 (4, 1, 0, false) := ⟨by decide, by decide, Or.inr ⟨_, q360, by decide +kernel⟩, Or.inl ⟨rfl, rfl⟩, rfl, fun _ => rfl⟩
theorem okF1_76 : OKF 1 76 (2, 3, 0, false) := ⟨by decide, by decide, Or.inr ⟨_, q303, by decide +kernel⟩, Or.inl ⟨rfl, rfl⟩, rfl, fun _ => rfl⟩
theorem okF1_85 : OKF 1 85 (2, 2, 2, true) := ⟨by decide, by decide, Or.inr ⟨_, q300, by decide +kernel⟩, Or.inr (Or.inr (Or.inr ⟨rfl, Or.inr ⟨_, rfl⟩⟩)), rfl, fun _ => rfl⟩
theorem okF1_93 : OKF 1 93 (5, 1, 2, true) := ⟨by decide, by decide, Or.inr ⟨_, q502, by decide +kernel⟩, Or.inr (Or.inr (Or.inr ⟨rfl, Or.inl ⟨_, rfl⟩⟩)), rfl, fun _ => rfl⟩
theorem okF1_104 : OKF 1 104 (2, 4, 0, false) := ⟨by decide, by decide, Or.inr ⟨_, q306, by decide +kernel⟩, Or.inl ⟨rfl, rfl⟩, rfl, fun _ => rfl⟩
theorem okF1_107 : OKF 1 107 (2, 5, 0, false) := ⟨by decide, by decide, Or.inr ⟨_, q308, by decide +kernel⟩, Or.inl ⟨rfl, rfl⟩, rfl, fun _ => rfl⟩
theorem okF1_115 : OKF 1 115 (1, 6, 3, false) := ⟨by decide, by decide, Or.inl q616, Or.inr (Or.inl ⟨rfl, rfl⟩), rfl, fun _ => rfl⟩
theorem okF1_124 : OKF 1 124 (5, 4, 2, true) := ⟨by decide, by decide, Or.inr ⟨_, q507, by decide +kernel⟩, Or.inr (Or.inr (Or.inr ⟨rfl, Or.inl ⟨_, rfl⟩⟩)), rfl, fun _ => rfl⟩
theorem okF1_127 : OKF 1 127 (5, 11, 2, true) := ⟨by decide, by decide, Or.inr ⟨_, q521, by decide +kernel⟩, Or.inr (Or.inr (Or.inr ⟨rfl, Or.inl ⟨_, rfl⟩⟩)), rfl, fun _ => rfl⟩
theorem okF1_130 : OKF 1 130 (5, 10, 2, true) := ⟨by decide, by decide, Or.inr ⟨_, q518, by decide +kernel⟩, Or.inr (Or.inr (Or.inr ⟨rfl, Or.inl ⟨_, rfl⟩⟩)), rfl, fun _ => rfl⟩
theorem okF1_133 : OKF 1 133 (5, 14, 2, true) := ⟨by decide, by decide, Or.inr ⟨_, q527, by decide +kernel⟩, Or.inr (Or.inr (Or.inr ⟨rfl, Or.inl ⟨_, rfl⟩⟩)), rfl, fun _ => rfl⟩
theorem okF1_172 : OKF 1 172 (5, 6, 2, true) := ⟨by decide, by decide, Or.inr ⟨_, q512, by decide +kernel⟩, Or.inr (Or.inr (Or.inr ⟨rfl, Or.inl ⟨_, rfl⟩⟩)), rfl, fun _ => rfl⟩
theorem okF1_178 : OKF 1 178 (9, 2, 0, false) := ⟨by decide, by decide, Or.inr ⟨_, q598, by decide +kernel⟩, Or.inl ⟨rfl, rfl⟩, rfl, fun _ => rfl⟩
theorem okF1_186 : OKF 1 186 (9, 3, 0, false) := ⟨by decide, by decide, Or.inr ⟨_, q600, by decide +kernel⟩, Or.inl ⟨rfl, rfl⟩, rfl, fun _ => rfl⟩
theorem okFl1 : ∀ e ∈ fLs 1, OKF 1 e.1 e.2 := List.forall_mem_cons.mpr ⟨okF1_10, List.forall_mem_cons.mpr ⟨okF1_21, List.forall_mem_cons.mpr ⟨okF1_28, List.forall_mem_cons.mpr ⟨okF1_32, List.forall_mem_cons.mpr ⟨okF1_38, List.forall_mem_cons.mpr ⟨okF1_42, List.forall_mem_cons.mpr ⟨okF1_61, List.forall_mem_cons.mpr ⟨okF1_65, List.forall_mem_cons.mpr ⟨okF1_76, List.forall_mem_cons.mpr ⟨okF1_85, List.forall_mem_cons.mpr ⟨okF1_93, List.forall_mem_cons.mpr ⟨okF1_104, List.forall_mem_cons.mpr ⟨okF1_107, List.forall_mem_cons.mpr ⟨okF1_115, List.forall_mem_cons.mpr ⟨okF1_124, List.forall_mem_cons.mpr ⟨okF1_127, List.forall_mem_cons.mpr ⟨okF1_130, List.forall_mem_cons.mpr ⟨okF1_133, List.forall_mem_cons.mpr ⟨okF1_172, List.forall_mem_cons.mpr ⟨okF1_178, List.forall_mem_cons.mpr ⟨okF1_186, fun _ h => absurd h List.not_mem_nil⟩⟩⟩⟩⟩⟩⟩⟩⟩⟩⟩⟩⟩⟩⟩⟩⟩⟩⟩⟩⟩
theorem okF2_47 : OKF 2 47 (2, 0, 2, true) := ⟨by decide, by decide, Or.inl q297, Or.inr (Or.inr (Or.inr ⟨rfl, Or.inr ⟨_, rfl⟩⟩)), rfl, fun _ => rfl⟩
theorem okF2_60 : OKF 2 60 (2, 1, 2, true) := ⟨by decide, by decide, Or.inl q298, Or.inr (Or.inr (Or.inr ⟨rfl, Or.inl ⟨_, rfl⟩⟩)), rfl, fun _ => rfl⟩
theorem okF2_65 : OKF 2 65 (2, 2, 2, true) := ⟨by decide, by decide, Or.inl q299, Or.inr (Or.inr (Or.inr ⟨rfl, Or.inr ⟨_, rfl⟩⟩)), rfl, fun _ => rfl⟩
theorem okF2_69 : OKF 2 69 (2, 4, 0, false) := ⟨by decide, by decide, Or.inl q305, Or.inl ⟨rfl, rfl⟩, rfl, fun _ => rfl⟩
theorem okF2_73 : OKF 2 73 (2, 5, 0, false) := ⟨by decide, by decide, Or.inl q307, Or.inl ⟨rfl, rfl⟩, rfl, fun _ => rfl⟩
theorem okF2_76 : OKF 2 76 (2, 8, 0, false) := ⟨by decide, by decide, Or.inl q313, Or.inl ⟨rfl, rfl⟩, rfl, fun _ => rfl⟩
theorem okF2_82 : OKF 2 82 (2, 3, 0, false) := ⟨by decide, by decide, Or.inl q302, Or.inl ⟨rfl, rfl⟩, rfl, fun _ => rfl⟩
theorem okF2_103 : OKF 2 103 (2, 7, 0, false) := ⟨by decide, by decide, Or.inl q312, Or.inl ⟨rfl, rfl⟩, rfl, fun _ => rfl⟩
theorem okF2_106 : OKF 2 106 (2, 6, 0, false) := ⟨by decide, by decide, Or.inl q310, Or.inl ⟨rfl, rfl⟩, rfl, fun _ => rfl⟩
theorem okF2_134 : OKF 2 134 (2, 9, 1, false) := ⟨by decide, by decide, Or.inl q316, Or.inr (Or.inr (Or.inl ⟨rfl, rfl⟩)), rfl, fun _ => rfl⟩
theorem okF2_138 : OKF 2 138 (2, 10, 0, false) := ⟨by decide, by decide, Or.inl q318, Or.inl ⟨rfl, rfl⟩, rfl, fun _ => rfl⟩
theorem okFl2 : ∀ e ∈ fLs 2, OKF 2 e.1 e.2 := List.forall_mem_cons.mpr ⟨okF2_47, List.forall_mem_cons.mpr ⟨okF2_60, List.forall_mem_cons.mpr ⟨okF2_65, List.forall_mem_cons.mpr ⟨okF2_69, List.forall_mem_cons.mpr ⟨okF2_73, List.forall_mem_cons.mpr ⟨okF2_76, List.forall_mem_cons.mpr ⟨okF2_82, List.forall_mem_cons.mpr ⟨okF2_103, List.forall_mem_cons.mpr ⟨okF2_106, List.forall_mem_cons.mpr ⟨okF2_134, List.forall_mem_cons.mpr ⟨okF2_138, fun _ h => absurd h List.not_mem_nil⟩⟩⟩⟩⟩⟩⟩⟩⟩⟩⟩
theorem okF3_12 : OKF 3 12 (3, 5, 2, true) := ⟨by decide, by decide, Or.inl q373, Or.inr (Or.inr (Or.inr ⟨rfl, Or.inl ⟨_, rfl⟩⟩)), rfl, fun _ => rfl⟩
theorem okF3_18 : OKF 3 18 (3, 6, 2, true) := ⟨by decide, by decide, Or.inl q374, Or.inr (Or.inr (Or.inr ⟨rfl, Or.inl ⟨_, rfl⟩⟩)), rfl, fun _ => rfl⟩
theorem okF3_21 : OKF 3 21 (3, 7, 2, true) := ⟨by decide, by decide, Or.inl q375, Or.inr (Or.inr (Or.inr ⟨rfl, Or.inl ⟨_, rfl⟩⟩)), rfl, fun _ => rfl⟩
theorem okF3_24 : OKF 3 24 (3, 8, 2, true) := ⟨by decide, by decide, Or.inl q376, Or.inr (Or.inr (Or.inr ⟨rfl, Or.inl ⟨_, rfl⟩⟩)), rfl, fun _ => rfl⟩
theorem okF3_27 : OKF 3 27 (3, 0, 2, true) := ⟨by decide, by decide, Or.inl q368, Or.inr (Or.inr (Or.inr ⟨rfl, Or.inl ⟨_, rfl⟩⟩)), rfl, fun _ => rfl⟩
theorem okF3_38 : OKF 3 38 (3, 4, 0, false) := ⟨by decide, by decide, Or.inl q372, Or.inl ⟨rfl, rfl⟩, rfl, fun _ => rfl⟩
theorem okF3_42 : OKF 3 42 (2, 7, 0, false) := ⟨by decide, by decide, Or.inr ⟨_, q311, by decide +kernel⟩, Or.inl ⟨rfl, rfl⟩, rfl, fun _ => rfl⟩
theorem okF3_49 : OKF 3 49 (3, 3, 0, false) := ⟨by decide, by decide, Or.inl q371, Or.inl ⟨rfl, rfl⟩, rfl, fun _ => rfl⟩
theorem okF3_52 : OKF 3 52 (3, 1, 2, false) := ⟨by decide, by decide, Or.inl q369, Or.inr (Or.inr (Or.inr ⟨rfl, Or.inl ⟨_, rfl⟩⟩)), rfl, fun _ => rfl⟩
theorem okF3_56 : OKF 3 56 (6, 1, 2, true) := ⟨by decide, by decide, Or.inr ⟨_, q422, by decide +kernel⟩, Or.inr (Or.inr (Or.inr ⟨rfl, Or.inl ⟨_, rfl⟩⟩)), rfl, fun _ => rfl⟩
theorem okF3_75 : OKF 3 75 (2, 6, 0, false) := ⟨by decide, by decide, Or.inr ⟨_, q309, by decide +kernel⟩, Or.inl ⟨rfl, rfl⟩, rfl, fun _ => rfl⟩
theorem okF3_78 : OKF 3 78 (2, 9, 1, false) := ⟨by decide, by decide, Or.inr ⟨_, q315, by decide +kernel⟩, Or.inr (Or.inr (Or.inl ⟨rfl, rfl⟩)), rfl, fun _ => rfl⟩
theorem okF3_88 : OKF 3 88 (2, 3, 0, false) := ⟨by decide, by decide, Or.inr ⟨_, q304, by decide +kernel⟩, Or.inl ⟨rfl, rfl⟩, rfl, fun _ => rfl⟩
theorem okF3_91 : OKF 3 91 (6, 6, 2, true) := ⟨by decide, by decide, Or.inr ⟨_, q436, by decide +kernel⟩, Or.inr (Or.inr (Or.inr ⟨rfl, Or.inr ⟨_, rfl⟩⟩)), rfl, fun _ => rfl⟩
theorem okF3_95 : OKF 3 95 (2, 2, 2, true) := ⟨by decide, by decide, Or.inr ⟨_, q301, by decide +kernel⟩, Or.inr (Or.inr (Or.inr ⟨rfl, Or.inr ⟨_, rfl⟩⟩)), rfl, fun _ => rfl⟩
theorem okF3_96 : OKF 3 96 (3, 2, 3, false) := ⟨by decide, by decide, Or.inl q370, Or.inr (Or.inl ⟨rfl, rfl⟩), rfl, fun _ => rfl⟩
theorem okF3_107 : OKF 3 107 (6, 0, 2, true) := ⟨by decide, by decide, Or.inr ⟨_, q419, by decide +kernel⟩, Or.inr (Or.inr (Or.inr ⟨rfl, Or.inl ⟨_, rfl⟩⟩)), rfl, fun _ => rfl⟩
theorem okF3_110 : OKF 3 110 (4, 1, 0, false) := ⟨by decide, by decide, Or.inr ⟨_, q361, by decide +kernel⟩, Or.inl ⟨rfl, rfl⟩, rfl, fun _ => rfl⟩
theorem okF3_113 : OKF 3 113 (2, 8, 0, false) := ⟨by decide, by decide, Or.inr ⟨_, q314, by decide +kernel⟩, Or.inl ⟨rfl, rfl⟩, rfl, fun _ => rfl⟩
theorem okF3_134 : OKF 3 134 (2, 10, 0, false) := ⟨by decide, by decide, Or.inr ⟨_, q317, by decide +kernel⟩, Or.inl ⟨rfl, rfl⟩, rfl, fun _ => rfl⟩
theorem okF3_155 : OKF 3 155 (6, 2, 2, true) := ⟨by decide, by decide, Or.inr ⟨_, q425, by decide +kernel⟩, Or.inr (Or.inr (Or.inr ⟨rfl, Or.inl ⟨_, rfl⟩⟩)), rfl, fun _ => rfl⟩
theorem okF3_158 : OKF 3 158 (3, 9, 0, false) := ⟨by decide, by decide, Or.inl q377, Or.inl ⟨rfl, rfl⟩, rfl, fun _ => rfl⟩
theorem okF3_185 : OKF 3 185 (6, 4, 2, true) := ⟨by decide, by decide, Or.inr ⟨_, q430, by decide +kernel⟩, Or.inr (Or.inr (Or.inr ⟨rfl, Or.inl ⟨_, rfl⟩⟩)), rfl, fun _ => rfl⟩
theorem okF3_217 : OKF 3 217 (6, 3, 2, true) := ⟨by decide, by decide, Or.inr ⟨_, q428, by decide +kernel⟩, Or.inr (Or.inr (Or.inr ⟨rfl, Or.inl ⟨_, rfl⟩⟩)), rfl, fun _ => rfl⟩
theorem okF3_232 : OKF 3 232 (3, 10, 3, false) := ⟨by decide, by decide, Or.inl q378, Or.inr (Or.inl ⟨rfl, rfl⟩), rfl, fun _ => rfl⟩
theorem okF3_235 : OKF 3 235 (6, 5, 2, true) := ⟨by decide, by decide, Or.inr ⟨_, q433, by decide +kernel⟩, Or.inr (Or.inr (Or.inr ⟨rfl, Or.inl ⟨_, rfl⟩⟩)), rfl, fun _ => rfl⟩
theorem okFl3 : ∀ e ∈ fLs 3, OKF 3 e.1 e.2 := List.forall_mem_cons.mpr ⟨okF3_12, List.forall_mem_cons.mpr ⟨okF3_18, List.forall_mem_cons.mpr ⟨okF3_21, List.forall_mem_cons.mpr ⟨okF3_24, List.forall_mem_cons.mpr ⟨okF3_27, List.forall_mem_cons.mpr ⟨okF3_38, List.forall_mem_cons.mpr ⟨okF3_42, List.forall_mem_cons.mpr ⟨okF3_49, List.forall_mem_cons.mpr ⟨okF3_52, List.forall_mem_cons.mpr ⟨okF3_56, List.forall_mem_cons.mpr ⟨okF3_75, List.forall_mem_cons.mpr ⟨okF3_78, List.forall_mem_cons.mpr ⟨okF3_88, List.forall_mem_cons.mpr ⟨okF3_91, List.forall_mem_cons.mpr ⟨okF3_95, List.forall_mem_cons.mpr ⟨okF3_96, List.forall_mem_cons.mpr ⟨okF3_107, List.forall_mem_cons.mpr ⟨okF3_110, List.forall_mem_cons.mpr ⟨okF3_113, List.forall_mem_cons.mpr ⟨okF3_134, List.forall_mem_cons.mpr ⟨okF3_155, List.forall_mem_cons.mpr ⟨okF3_158, List.forall_mem_cons.mpr ⟨okF3_185, List.forall_mem_cons.mpr ⟨okF3_217, List.forall_mem_cons.mpr ⟨okF3_232, List.forall_mem_cons.mpr ⟨okF3_235, fun _ h => absurd h List.not_mem_nil⟩⟩⟩⟩⟩⟩⟩⟩⟩⟩⟩⟩⟩⟩⟩⟩⟩⟩⟩⟩⟩⟩⟩⟩⟩⟩
theorem okF4_7 : OKF 4 7 (4, 0, 2, false) := ⟨by decide, by decide, Or.inl q354, Or.inr (Or.inr (Or.inr ⟨rfl, Or.inr ⟨_, rfl⟩⟩)), rfl, fun _ => rfl⟩
theorem okF4_13 : OKF 4 13 (4, 1, 0, false) := ⟨by decide, by decide, Or.inl q355, Or.inl ⟨rfl, rfl⟩, rfl, fun _ => rfl⟩
theorem okFl4 : ∀ e ∈ fLs 4, OKF 4 e.1 e.2 := List.forall_mem_cons.mpr ⟨okF4_7, List.forall_mem_cons.mpr ⟨okF4_13, fun _ h => absurd h List.not_mem_nil⟩⟩
theorem okF5_12 : OKF 5 12 (5, 1, 2, true) := ⟨by decide, by decide, Or.inl q501, Or.inr (Or.inr (Or.inr ⟨rfl, Or.inl ⟨_, rfl⟩⟩)), rfl, fun _ => rfl⟩
theorem okF5_21 : OKF 5 21 (5, 2, 2, true) := ⟨by decide, by decide, Or.inl q503, Or.inr (Or.inr (Or.inr ⟨rfl, Or.inl ⟨_, rfl⟩⟩)), rfl, fun _ => rfl⟩
theorem okF5_30 : OKF 5 30 (5, 3, 2, true) := ⟨by decide, by decide, Or.inl q505, Or.inr (Or.inr (Or.inr ⟨rfl, Or.inl ⟨_, rfl⟩⟩)), rfl, fun _ => rfl⟩
theorem okF5_37 : OKF 5 37 (5, 4, 2, true) := ⟨by decide, by decide, Or.inl q506, Or.inr (Or.inr (Or.inr ⟨rfl, Or.inl ⟨_, rfl⟩⟩)), rfl, fun _ => rfl⟩
theorem okF5_41 : OKF 5 41 (5, 5, 2, true) := ⟨by decide, by decide, Or.inl q508, Or.inr (Or.inr (Or.inr ⟨rfl, Or.inl ⟨_, rfl⟩⟩)), rfl, fun _ => rfl⟩
theorem okF5_44 : OKF 5 44 (5, 6, 2, true) := ⟨by decide, by decide, Or.inl q510, Or.inr (Or.inr (Or.inr ⟨rfl, Or.inl ⟨_, rfl⟩⟩)), rfl, fun _ => rfl⟩
theorem okF5_47 : OKF 5 47 (5, 7, 2, true) := ⟨by decide, by decide, Or.inl q513, Or.inr (Or.inr (Or.inr ⟨rfl, Or.inl ⟨_, rfl⟩⟩)), rfl, fun _ => rfl⟩
theorem okF5_50 : OKF 5 50 (5, 8, 2, true) := ⟨by decide, by decide, Or.inl q514, Or.inr (Or.inr (Or.inr ⟨rfl, Or.inl ⟨_, rfl⟩⟩)), rfl, fun _ => rfl⟩
theorem okF5_53 : OKF 5 53 (5, 9, 2, true) := ⟨by decide, by decide, Or.inl q515, Or.inr (Or.inr (Or.inr ⟨rfl, Or.inl ⟨_, rfl⟩⟩)), rfl, fun _ => rfl⟩
theorem okF5_56 : OKF 5 56 (5, 10, 2, true) := ⟨by decide, by decide, Or.inl q516, Or.inr (Or.inr (Or.inr ⟨rfl, Or.inl ⟨_, rfl⟩⟩)), rfl, fun _ => rfl⟩
theorem okF5_59 : OKF 5 59 (5, 11, 2, true) := ⟨by decide, by decide, Or.inl q519, Or.inr (Or.inr (Or.inr ⟨rfl, Or.inl ⟨_, rfl⟩⟩)), rfl, fun _ => rfl⟩
theorem okF5_62 : OKF 5 62 (5, 12, 2, true) := ⟨by decide, by decide, Or.inl q522, Or.inr (Or.inr (Or.inr ⟨rfl, Or.inl ⟨_, rfl⟩⟩)), rfl, fun _ => rfl⟩
theorem okF5_65 : OKF 5 65 (5, 14, 2, true) := ⟨by decide, by decide, Or.inl q526, Or.inr (Or.inr (Or.inr ⟨rfl, Or.inl ⟨_, rfl⟩⟩)), rfl, fun _ => rfl⟩
theorem okF5_68 : OKF 5 68 (5, 17, 2, true) := ⟨by decide, by decide, Or.inl q530, Or.inr (Or.inr (Or.inr ⟨rfl, Or.inr ⟨_, rfl⟩⟩)), rfl, fun _ => rfl⟩
theorem okF5_72 : OKF 5 72 (5, 18, 2, true) := ⟨by decide, by decide, Or.inl q531, Or.inr (Or.inr (Or.inr ⟨rfl, Or.inl ⟨_, rfl⟩⟩)), rfl, fun _ => rfl⟩
theorem okF5_75 : OKF 5 75 (5, 19, 2, true) := ⟨by decide, by decide, Or.inl q532, Or.inr (Or.inr (Or.inr ⟨rfl, Or.inl ⟨_, rfl⟩⟩)), rfl, fun _ => rfl⟩
theorem okF5_78 : OKF 5 78 (5, 20, 2, true) := ⟨by decide, by decide, Or.inl q533, Or.inr (Or.inr (Or.inr ⟨rfl, Or.inl ⟨_, rfl⟩⟩)), rfl, fun _ => rfl⟩
theorem okF5_81 : OKF 5 81 (5, 0, 2, true) := ⟨by decide, by decide, Or.inl q500, Or.inr (Or.inr (Or.inr ⟨rfl, Or.inl ⟨_, rfl⟩⟩)), rfl, fun _ => rfl⟩
theorem okF5_85 : OKF 5 85 (6, 1, 2, true) := ⟨by decide, by decide, Or.inr ⟨_, q421, by decide +kernel⟩, Or.inr (Or.inr (Or.inr ⟨rfl, Or.inl ⟨_, rfl⟩⟩)), rfl, fun _ => rfl⟩
theorem okF5_109 : OKF 5 109 (4, 1, 0, false) := ⟨by decide, by decide, Or.inr ⟨_, q359, by decide +kernel⟩, Or.inl ⟨rfl, rfl⟩, rfl, fun _ => rfl⟩
theorem okF5_122 : OKF 5 122 (6, 0, 2, true) := ⟨by decide, by decide, Or.inr ⟨_, q418, by decide +kernel⟩, Or.inr (Or.inr (Or.inr ⟨rfl, Or.inl ⟨_, rfl⟩⟩)), rfl, fun _ => rfl⟩
theorem okF5_145 : OKF 5 145 (6, 2, 2, true) := ⟨by decide, by decide, Or.inr ⟨_, q424, by decide +kernel⟩, Or.inr (Or.inr (Or.inr ⟨rfl, Or.inl ⟨_, rfl⟩⟩)), rfl, fun _ => rfl⟩
theorem okF5_175 : OKF 5 175 (5, 21, 0, false) := ⟨by decide, by decide, Or.inl q534, Or.inl ⟨rfl, rfl⟩, rfl, fun _ => rfl⟩
theorem okF5_178 : OKF 5 178 (5, 22, 0, false) := ⟨by decide, by decide, Or.inl q535, Or.inl ⟨rfl, rfl⟩, rfl, fun _ => rfl⟩
theorem okF5_181 : OKF 5 181 (5, 23, 0, false) := ⟨by decide, by decide, Or.inl q536, Or.inl ⟨rfl, rfl⟩, rfl, fun _ => rfl⟩
theorem okF5_187 : OKF 5 187 (6, 3, 2, true) := ⟨by decide, by decide, Or.inr ⟨_, q427, by decide +kernel⟩, Or.inr (Or.inr (Or.inr ⟨rfl, Or.inl ⟨_, rfl⟩⟩)), rfl, fun _ => rfl⟩
theorem okF5_207 : OKF 5 207 (6, 4, 2, true) := ⟨by decide, by decide, Or.inr ⟨_, q431, by decide +kernel⟩, Or.inr (Or.inr (Or.inr ⟨rfl, Or.inl ⟨_, rfl⟩⟩)), rfl, fun _ => rfl⟩
theorem okF5_259 : OKF 5 259 (5, 13, 0, false) := ⟨by decide, by decide, Or.inl q525, Or.inl ⟨rfl, rfl⟩, rfl, fun _ => rfl⟩
theorem okF5_268 : OKF 5 268 (8, 1, 2, true) := ⟨by decide, by decide, Or.inr ⟨_, q489, by decide +kernel⟩, Or.inr (Or.inr (Or.inr ⟨rfl, Or.inl ⟨_, rfl⟩⟩)), rfl, fun _ => rfl⟩
theorem okF5_278 : OKF 5 278 (5, 15, 0, false) := ⟨by decide, by decide, Or.inl q528, Or.inl ⟨rfl, rfl⟩, rfl, fun _ => rfl⟩
theorem okF5_289 : OKF 5 289 (7, 4, 0, false) := ⟨by decide, by decide, Or.inr ⟨_, q467, by decide +kernel⟩, Or.inl ⟨rfl, rfl⟩, rfl, fun _ => rfl⟩
theorem okF5_290 : OKF 5 290 (5, 16, 0, false) := ⟨by decide, by decide, Or.inl q529, Or.inl ⟨rfl, rfl⟩, rfl, fun _ => rfl⟩
theorem okF5_291 : OKF 5 291 (5, 24, 0, false) := ⟨by decide, by decide, Or.inl q537, Or.inl ⟨rfl, rfl⟩, rfl, fun _ => rfl⟩
theorem okF5_294 : OKF 5 294 (6, 5, 2, true) := ⟨by decide, by decide, Or.inr ⟨_, q434, by decide +kernel⟩, Or.inr (Or.inr (Or.inr ⟨rfl, Or.inl ⟨_, rfl⟩⟩)), rfl, fun _ => rfl⟩
theorem okFl5 : ∀ e ∈ fLs 5, OKF 5 e.1 e.2 := List.forall_mem_cons.mpr ⟨okF5_12, List.forall_mem_cons.mpr ⟨okF5_21, List.forall_mem_cons.mpr ⟨okF5_30, List.forall_mem_cons.mpr ⟨okF5_37, List.forall_mem_cons.mpr ⟨okF5_41, List.forall_mem_cons.mpr ⟨okF5_44, List.forall_mem_cons.mpr ⟨okF5_47, List.forall_mem_cons.mpr ⟨okF5_50, List.forall_mem_cons.mpr ⟨okF5_53, List.forall_mem_cons.mpr ⟨okF5_56, List.forall_mem_cons.mpr ⟨okF5_59, List.forall_mem_cons.mpr ⟨okF5_62, List.forall_mem_cons.mpr ⟨okF5_65, List.forall_mem_cons.mpr ⟨okF5_68, List.forall_mem_cons.mpr ⟨okF5_72, List.forall_mem_cons.mpr ⟨okF5_75, List.forall_mem_cons.mpr ⟨okF5_78, List.forall_mem_cons.mpr ⟨okF5_81, List.forall_mem_cons.mpr ⟨okF5_85, List.forall_mem_cons.mpr ⟨okF5_109, List.forall_mem_cons.mpr ⟨okF5_122, List.forall_mem_cons.mpr ⟨okF5_145, List.forall_mem_cons.mpr ⟨okF5_175, List.forall_mem_cons.mpr ⟨okF5_178, List.forall_mem_cons.mpr ⟨okF5_181, List.forall_mem_cons.mpr ⟨okF5_187, List.forall_mem_cons.mpr ⟨okF5_207, List.forall_mem_cons.mpr ⟨okF5_259, List.forall_mem_cons.mpr ⟨okF5_268, List.forall_mem_cons.mpr ⟨okF5_278, List.forall_mem_cons.mpr ⟨okF5_289, List.forall_mem_cons.mpr ⟨okF5_290, List.forall_mem_cons.mpr ⟨okF5_291, List.forall_mem_cons.mpr ⟨okF5_294, fun _ h => absurd h List.not_mem_nil⟩⟩⟩⟩⟩⟩⟩⟩⟩⟩⟩⟩⟩⟩⟩⟩⟩⟩⟩⟩⟩⟩⟩⟩⟩⟩⟩⟩⟩⟩⟩⟩⟩⟩
theorem okF6_12 : OKF 6 12 (6, 0, 2, true) := ⟨by decide, by decide, Or.inl q417, Or.inr (Or.inr (Or.inr ⟨rfl, Or.inl ⟨_, rfl⟩⟩)), rfl, fun _ => rfl⟩
theorem okF6_18 : OKF 6 18 (6, 1, 2, true) := ⟨by decide, by decide, Or.inl q420, Or.inr (Or.inr (Or.inr ⟨rfl, Or.inl ⟨_, rfl⟩⟩)), rfl, fun _ => rfl⟩
theorem okF6_21 : OKF 6 21 (6, 2, 2, true) := ⟨by decide, by decide, Or.inl q423, Or.inr (Or.inr (Or.inr ⟨rfl, Or.inl ⟨_, rfl⟩⟩)), rfl, fun _ => rfl⟩
theorem okF6_24 : OKF 6 24 (6, 3, 2, true) := ⟨by decide, by decide, Or.inl q426, Or.inr (Or.inr (Or.inr ⟨rfl, Or.inl ⟨_, rfl⟩⟩)), rfl, fun _ => rfl⟩
theorem okF6_27 : OKF 6 27 (6, 4, 2, true) := ⟨by decide, by decide, Or.inl q429, Or.inr (Or.inr (Or.inr ⟨rfl, Or.inl ⟨_, rfl⟩⟩)), rfl, fun _ => rfl⟩
theorem okF6_30 : OKF 6 30 (6, 5, 2, true) := ⟨by decide, by decide, Or.inl q432, Or.inr (Or.inr (Or.inr ⟨rfl, Or.inl ⟨_, rfl⟩⟩)), rfl, fun _ => rfl⟩
theorem okF6_34 : OKF 6 34 (6, 6, 2, true) := ⟨by decide, by decide, Or.inl q435, Or.inr (Or.inr (Or.inr ⟨rfl, Or.inr ⟨_, rfl⟩⟩)), rfl, fun _ => rfl⟩
theorem okF6_38 : OKF 6 38 (4, 1, 0, false) := ⟨by decide, by decide, Or.inr ⟨_, q356, by decide +kernel⟩, Or.inl ⟨rfl, rfl⟩, rfl, fun _ => rfl⟩
theorem okFl6 : ∀ e ∈ fLs 6, OKF 6 e.1 e.2 := List.forall_mem_cons.mpr ⟨okF6_12, List.forall_mem_cons.mpr ⟨okF6_18, List.forall_mem_cons.mpr ⟨okF6_21, List.forall_mem_cons.mpr ⟨okF6_24, List.forall_mem_cons.mpr ⟨okF6_27, List.forall_mem_cons.mpr ⟨okF6_30, List.forall_mem_cons.mpr ⟨okF6_34, List.forall_mem_cons.mpr ⟨okF6_38, fun _ h => absurd h List.not_mem_nil⟩⟩⟩⟩⟩⟩⟩⟩
theorem okF7_9 : OKF 7 9 (7, 0, 2, true) := ⟨by decide, by decide, Or.inl q459, Or.inr (Or.inr (Or.inr ⟨rfl, Or.inr ⟨_, rfl⟩⟩)), rfl, fun _ => rfl⟩
theorem okF7_15 : OKF 7 15 (7, 1, 2, true) := ⟨by decide, by decide, Or.inl q461, Or.inr (Or.inr (Or.inr ⟨rfl, Or.inr ⟨_, rfl⟩⟩)), rfl, fun _ => rfl⟩
theorem okF7_18 : OKF 7 18 (7, 2, 2, true) := ⟨by decide, by decide, Or.inl q463, Or.inr (Or.inr (Or.inr ⟨rfl, Or.inr ⟨_, rfl⟩⟩)), rfl, fun _ => rfl⟩
theorem okF7_22 : OKF 7 22 (7, 3, 2, true) := ⟨by decide, by decide, Or.inl q464, Or.inr (Or.inr (Or.inr ⟨rfl, Or.inr ⟨_, rfl⟩⟩)), rfl, fun _ => rfl⟩
theorem okF7_25 : OKF 7 25 (7, 4, 0, false) := ⟨by decide, by decide, Or.inl q465, Or.inl ⟨rfl, rfl⟩, rfl, fun _ => rfl⟩
theorem okFl7 : ∀ e ∈ fLs 7, OKF 7 e.1 e.2 := List.forall_mem_cons.mpr ⟨okF7_9, List.forall_mem_cons.mpr ⟨okF7_15, List.forall_mem_cons.mpr ⟨okF7_18, List.forall_mem_cons.mpr ⟨okF7_22, List.forall_mem_cons.mpr ⟨okF7_25, fun _ h => absurd h List.not_mem_nil⟩⟩⟩⟩⟩
theorem okF8_12 : OKF 8 12 (8, 1, 2, true) := ⟨by decide, by decide, Or.inl q488, Or.inr (Or.inr (Or.inr ⟨rfl, Or.inl ⟨_, rfl⟩⟩)), rfl, fun _ => rfl⟩
theorem okF8_18 : OKF 8 18 (8, 2, 2, true) := ⟨by decide, by decide, Or.inl q490, Or.inr (Or.inr (Or.inr ⟨rfl, Or.inl ⟨_, rfl⟩⟩)), rfl, fun _ => rfl⟩
theorem okF8_21 : OKF 8 21 (8, 0, 2, true) := ⟨by decide, by decide, Or.inl q487, Or.inr (Or.inr (Or.inr ⟨rfl, Or.inl ⟨_, rfl⟩⟩)), rfl, fun _ => rfl⟩
theorem okF8_25 : OKF 8 25 (4, 1, 0, false) := ⟨by decide, by decide, Or.inr ⟨_, q357, by decide +kernel⟩, Or.inl ⟨rfl, rfl⟩, rfl, fun _ => rfl⟩
theorem okFl8 : ∀ e ∈ fLs 8, OKF 8 e.1 e.2 := List.forall_mem_cons.mpr ⟨okF8_12, List.forall_mem_cons.mpr ⟨okF8_18, List.forall_mem_cons.mpr ⟨okF8_21, List.forall_mem_cons.mpr ⟨okF8_25, fun _ h => absurd h List.not_mem_nil⟩⟩⟩⟩
theorem okF9_9 : OKF 9 9 (9, 0, 2, true) := ⟨by decide, by decide, Or.inl q595, Or.inr (Or.inr (Or.inr ⟨rfl, Or.inr ⟨_, rfl⟩⟩)), rfl, fun _ => rfl⟩
theorem okF9_15 : OKF 9 15 (5, 10, 2, true) := ⟨by decide, by decide, Or.inr ⟨_, q517, by decide +kernel⟩, Or.inr (Or.inr (Or.inr ⟨rfl, Or.inl ⟨_, rfl⟩⟩)), rfl, fun _ => rfl⟩
theorem okF9_21 : OKF 9 21 (4, 1, 0, false) := ⟨by decide, by decide, Or.inr ⟨_, q358, by decide +kernel⟩, Or.inl ⟨rfl, rfl⟩, rfl, fun _ => rfl⟩
theorem okF9_31 : OKF 9 31 (9, 2, 0, false) := ⟨by decide, by decide, Or.inl q597, Or.inl ⟨rfl, rfl⟩, rfl, fun _ => rfl⟩
theorem okF9_34 : OKF 9 34 (5, 11, 2, true) := ⟨by decide, by decide, Or.inr ⟨_, q520, by decide +kernel⟩, Or.inr (Or.inr (Or.inr ⟨rfl, Or.inl ⟨_, rfl⟩⟩)), rfl, fun _ => rfl⟩
theorem okF9_37 : OKF 9 37 (9, 1, 0, false) := ⟨by decide, by decide, Or.inl q596, Or.inl ⟨rfl, rfl⟩, rfl, fun _ => rfl⟩
theorem okF9_40 : OKF 9 40 (5, 2, 2, true) := ⟨by decide, by decide, Or.inr ⟨_, q504, by decide +kernel⟩, Or.inr (Or.inr (Or.inr ⟨rfl, Or.inl ⟨_, rfl⟩⟩)), rfl, fun _ => rfl⟩
theorem okF9_44 : OKF 9 44 (7, 4, 0, false) := ⟨by decide, by decide, Or.inr ⟨_, q466, by decide +kernel⟩, Or.inl ⟨rfl, rfl⟩, rfl, fun _ => rfl⟩
theorem okF9_51 : OKF 9 51 (7, 0, 2, true) := ⟨by decide, by decide, Or.inr ⟨_, q460, by decide +kernel⟩, Or.inr (Or.inr (Or.inr ⟨rfl, Or.inr ⟨_, rfl⟩⟩)), rfl, fun _ => rfl⟩
theorem okF9_58 : OKF 9 58 (7, 1, 2, true) := ⟨by decide, by decide, Or.inr ⟨_, q462, by decide +kernel⟩, Or.inr (Or.inr (Or.inr ⟨rfl, Or.inr ⟨_, rfl⟩⟩)), rfl, fun _ => rfl⟩
theorem okF9_61 : OKF 9 61 (5, 12, 2, true) := ⟨by decide, by decide, Or.inr ⟨_, q523, by decide +kernel⟩, Or.inr (Or.inr (Or.inr ⟨rfl, Or.inl ⟨_, rfl⟩⟩)), rfl, fun _ => rfl⟩
theorem okF9_64 : OKF 9 64 (9, 3, 0, false) := ⟨by decide, by decide, Or.inl q599, Or.inl ⟨rfl, rfl⟩, rfl, fun _ => rfl⟩
theorem okF9_67 : OKF 9 67 (5, 13, 0, false) := ⟨by decide, by decide, Or.inr ⟨_, q524, by decide +kernel⟩, Or.inl ⟨rfl, rfl⟩, rfl, fun _ => rfl⟩
theorem okF9_73 : OKF 9 73 (5, 6, 2, true) := ⟨by decide, by decide, Or.inr ⟨_, q511, by decide +kernel⟩, Or.inr (Or.inr (Or.inr ⟨rfl, Or.inl ⟨_, rfl⟩⟩)), rfl, fun _ => rfl⟩
theorem okFl9 : ∀ e ∈ fLs 9, OKF 9 e.1 e.2 := List.forall_mem_cons.mpr ⟨okF9_9, List.forall_mem_cons.mpr ⟨okF9_15, List.forall_mem_cons.mpr ⟨okF9_21, List.forall_mem_cons.mpr ⟨okF9_31, List.forall_mem_cons.mpr ⟨okF9_34, List.forall_mem_cons.mpr ⟨okF9_37, List.forall_mem_cons.mpr ⟨okF9_40, List.forall_mem_cons.mpr ⟨okF9_44, List.forall_mem_cons.mpr ⟨okF9_51, List.forall_mem_cons.mpr ⟨okF9_58, List.forall_mem_cons.mpr ⟨okF9_61, List.forall_mem_cons.mpr ⟨okF9_64, List.forall_mem_cons.mpr ⟨okF9_67, List.forall_mem_cons.mpr ⟨okF9_73, fun _ h => absurd h List.not_mem_nil⟩⟩⟩⟩⟩⟩⟩⟩⟩⟩⟩⟩⟩⟩
theorem okF10_8 : OKF 10 8 (10, 1, 2, true) := ⟨by decide, by decide, Or.inl q1501, Or.inr (Or.inr (Or.inr ⟨rfl, Or.inr ⟨_, rfl⟩⟩)), rfl, fun _ => rfl⟩
theorem okF10_15 : OKF 10 15 (10, 4, 2, true) := ⟨by decide, by decide, Or.inl q1504, Or.inr (Or.inr (Or.inr ⟨rfl, Or.inr ⟨_, rfl⟩⟩)), rfl, fun _ => rfl⟩
theorem okF10_19 : OKF 10 19 (10, 5, 2, true) := ⟨by decide, by decide, Or.inl q1505, Or.inr (Or.inr (Or.inr ⟨rfl, Or.inr ⟨_, rfl⟩⟩)), rfl, fun _ => rfl⟩
theorem okF10_22 : OKF 10 22 (10, 6, 2, true) := ⟨by decide, by decide, Or.inl q1506, Or.inr (Or.inr (Or.inr ⟨rfl, Or.inr ⟨_, rfl⟩⟩)), rfl, fun _ => rfl⟩
theorem okF10_25 : OKF 10 25 (10, 13, 2, true) := ⟨by decide, by decide, Or.inl q1513, Or.inr (Or.inr (Or.inr ⟨rfl, Or.inr ⟨_, rfl⟩⟩)), rfl, fun _ => rfl⟩
theorem okF10_28 : OKF 10 28 (10, 14, 2, true) := ⟨by decide, by decide, Or.inl q1514, Or.inr (Or.inr (Or.inr ⟨rfl, Or.inr ⟨_, rfl⟩⟩)), rfl, fun _ => rfl⟩
theorem okF10_31 : OKF 10 31 (10, 15, 2, true) := ⟨by decide, by decide, Or.inl q1515, Or.inr (Or.inr (Or.inr ⟨rfl, Or.inr ⟨_, rfl⟩⟩)), rfl, fun _ => rfl⟩
theorem okF10_34 : OKF 10 34 (10, 16, 2, true) := ⟨by decide, by decide, Or.inl q1516, Or.inr (Or.inr (Or.inr ⟨rfl, Or.inr ⟨_, rfl⟩⟩)), rfl, fun _ => rfl⟩
theorem okF10_37 : OKF 10 37 (10, 17, 2, true) := ⟨by decide, by decide, Or.inl q1517, Or.inr (Or.inr (Or.inr ⟨rfl, Or.inr ⟨_, rfl⟩⟩)), rfl, fun _ => rfl⟩
theorem okF10_40 : OKF 10 40 (10, 19, 2, true) := ⟨by decide, by decide, Or.inl q1519, Or.inr (Or.inr (Or.inr ⟨rfl, Or.inr ⟨_, rfl⟩⟩)), rfl, fun _ => rfl⟩
theorem okF10_43 : OKF 10 43 (10, 20, 2, true) := ⟨by decide, by decide, Or.inl q1520, Or.inr (Or.inr (Or.inr ⟨rfl, Or.inr ⟨_, rfl⟩⟩)), rfl, fun _ => rfl⟩
theorem okF10_46 : OKF 10 46 (10, 21, 2, true) := ⟨by decide, by decide, Or.inl q1521, Or.inr (Or.inr (Or.inr ⟨rfl, Or.inr ⟨_, rfl⟩⟩)), rfl, fun _ => rfl⟩
theorem okF10_49 : OKF 10 49 (10, 22, 2, true) := ⟨by decide, by decide, Or.inl q1522, Or.inr (Or.inr (Or.inr ⟨rfl, Or.inr ⟨_, rfl⟩⟩)), rfl, fun _ => rfl⟩
theorem okF10_53 : OKF 10 53 (10, 23, 2, true) := ⟨by decide, by decide, Or.inl q1523, Or.inr (Or.inr (Or.inr ⟨rfl, Or.inr ⟨_, rfl⟩⟩)), rfl, fun _ => rfl⟩
theorem okF10_56 : OKF 10 56 (10, 24, 2, true) := ⟨by decide, by decide, Or.inl q1524, Or.inr (Or.inr (Or.inr ⟨rfl, Or.inr ⟨_, rfl⟩⟩)), rfl, fun _ => rfl⟩
theorem okF10_59 : OKF 10 59 (10, 25, 2, true) := ⟨by decide, by decide, Or.inl q1525, Or.inr (Or.inr (Or.inr ⟨rfl, Or.inr ⟨_, rfl⟩⟩)), rfl, fun _ => rfl⟩
theorem okF10_62 : OKF 10 62 (10, 26, 2, true) := ⟨by decide, by decide, Or.inl q1526, Or.inr (Or.inr (Or.inr ⟨rfl, Or.inr ⟨_, rfl⟩⟩)), rfl, fun _ => rfl⟩
theorem okF10_65 : OKF 10 65 (10, 28, 2, true) := ⟨by decide, by decide, Or.inl q1528, Or.inr (Or.inr (Or.inr ⟨rfl, Or.inr ⟨_, rfl⟩⟩)), rfl, fun _ => rfl⟩
theorem okF10_68 : OKF 10 68 (10, 29, 2, true) := ⟨by decide, by decide, Or.inl q1529, Or.inr (Or.inr (Or.inr ⟨rfl, Or.inr ⟨_, rfl⟩⟩)), rfl, fun _ => rfl⟩
theorem okF10_71 : OKF 10 71 (10, 30, 2, true) := ⟨by decide, by decide, Or.inl q1530, Or.inr (Or.inr (Or.inr ⟨rfl, Or.inr ⟨_, rfl⟩⟩)), rfl, fun _ => rfl⟩
theorem okF10_74 : OKF 10 74 (10, 32, 2, true) := ⟨by decide, by decide, Or.inl q1532, Or.inr (Or.inr (Or.inr ⟨rfl, Or.inr ⟨_, rfl⟩⟩)), rfl, fun _ => rfl⟩
theorem okF10_77 : OKF 10 77 (10, 33, 2, true) := ⟨by decide, by decide, Or.inl q1533, Or.inr (Or.inr (Or.inr ⟨rfl, Or.inr ⟨_, rfl⟩⟩)), rfl, fun _ => rfl⟩
theorem okF10_80 : OKF 10 80 (10, 34, 2, true) := ⟨by decide, by decide, Or.inl q1534, Or.inr (Or.inr (Or.inr ⟨rfl, Or.inr ⟨_, rfl⟩⟩)), rfl, fun _ => rfl⟩
theorem okF10_83 : OKF 10 83 (10, 36, 2, true) := ⟨by decide, by decide, Or.inl q1536, Or.inr (Or.inr (Or.inr ⟨rfl, Or.inr ⟨_, rfl⟩⟩)), rfl, fun _ => rfl⟩
theorem okF10_86 : OKF 10 86 (10, 37, 2, true) := ⟨by decide, by decide, Or.inl q1537, Or.inr (Or.inr (Or.inr ⟨rfl, Or.inr ⟨_, rfl⟩⟩)), rfl, fun _ => rfl⟩
theorem okF10_89 : OKF 10 89 (10, 39, 2, true) := ⟨by decide, by decide, Or.inl q1539, Or.inr (Or.inr (Or.inr ⟨rfl, Or.inr ⟨_, rfl⟩⟩)), rfl, fun _ => rfl⟩
theorem okF10_92 : OKF 10 92 (10, 40, 2, true) := ⟨by decide, by decide, Or.inl q1540, Or.inr (Or.inr (Or.inr ⟨rfl, Or.inr ⟨_, rfl⟩⟩)), rfl, fun _ => rfl⟩
theorem okF10_95 : OKF 10 95 (10, 41, 2, false) := ⟨by decide, by decide, Or.inl q1541, Or.inr (Or.inr (Or.inr ⟨rfl, Or.inr ⟨_, rfl⟩⟩)), rfl, fun _ => rfl⟩
theorem okF10_98 : OKF 10 98 (10, 43, 2, false) := ⟨by decide, by decide, Or.inl q1543, Or.inr (Or.inr (Or.inr ⟨rfl, Or.inr ⟨_, rfl⟩⟩)), rfl, fun _ => rfl⟩
theorem okF10_101 : OKF 10 101 (10, 45, 2, true) := ⟨by decide, by decide, Or.inl q1545, Or.inr (Or.inr (Or.inr ⟨rfl, Or.inr ⟨_, rfl⟩⟩)), rfl, fun _ => rfl⟩
theorem okF10_104 : OKF 10 104 (10, 46, 2, true) := ⟨by decide, by decide, Or.inl q1546, Or.inr (Or.inr (Or.inr ⟨rfl, Or.inr ⟨_, rfl⟩⟩)), rfl, fun _ => rfl⟩
theorem okF10_107 : OKF 10 107 (10, 47, 2, true) := ⟨by decide, by decide, Or.inl q1547, Or.inr (Or.inr (Or.inr ⟨rfl, Or.inr ⟨_, rfl⟩⟩)), rfl, fun _ => rfl⟩
theorem okF10_110 : OKF 10 110 (10, 48, 2, true) := ⟨by decide, by decide, Or.inl q1548, Or.inr (Or.inr (Or.inr ⟨rfl, Or.inr ⟨_, rfl⟩⟩)), rfl, fun _ => rfl⟩
theorem okF10_113 : OKF 10 113 (10, 49, 2, true) := ⟨by decide, by decide, Or.inl q1549, Or.inr (Or.inr (Or.inr ⟨rfl, Or.inr ⟨_, rfl⟩⟩)), rfl, fun _ => rfl⟩
theorem okF10_116 : OKF 10 116 (10, 50, 2, true) := ⟨by decide, by decide, Or.inl q1550, Or.inr (Or.inr (Or.inr ⟨rfl, Or.inr ⟨_, rfl⟩⟩)), rfl, fun _ => rfl⟩
theorem okF10_119 : OKF 10 119 (10, 52, 2, true) := ⟨by decide, by decide, Or.inl q1552, Or.inr (Or.inr (Or.inr ⟨rfl, Or.inr ⟨_, rfl⟩⟩)), rfl, fun _ => rfl⟩
theorem okF10_122 : OKF 10 122 (10, 55, 2, true) := ⟨by decide, by decide, Or.inl q1555, Or.inr (Or.inr (Or.inr ⟨rfl, Or.inr ⟨_, rfl⟩⟩)), rfl, fun _ => rfl⟩
theorem okF10_125 : OKF 10 125 (10, 57, 2, true) := ⟨by decide, by decide, Or.inl q1557, Or.inr (Or.inr (Or.inr ⟨rfl, Or.inr ⟨_, rfl⟩⟩)), rfl, fun _ => rfl⟩
theorem okF10_128 : OKF 10 128 (10, 58, 2, true) := ⟨by decide, by decide, Or.inl q1558, Or.inr (Or.inr (Or.inr ⟨rfl, Or.inr ⟨_, rfl⟩⟩)), rfl, fun _ => rfl⟩
theorem okF10_131 : OKF 10 131 (10, 59, 2, true) := ⟨by decide, by decide, Or.inl q1559, Or.inr (Or.inr (Or.inr ⟨rfl, Or.inr ⟨_, rfl⟩⟩)), rfl, fun _ => rfl⟩
theorem okF10_134 : OKF 10 134 (10, 60, 2, true) := ⟨by decide, by decide, Or.inl q1560, Or.inr (Or.inr (Or.inr ⟨rfl, Or.inr ⟨_, rfl⟩⟩)), rfl, fun _ => rfl⟩
theorem okF10_137 : OKF 10 137 (10, 61, 2, true) := ⟨by decide, by decide, Or.inl q1561, Or.inr (Or.inr (Or.inr ⟨rfl, Or.inr ⟨_, rfl⟩⟩)), rfl, fun _ => rfl⟩
theorem okF10_140 : OKF 10 140 (10, 62, 2, true) := ⟨by decide, by decide, Or.inl q1562, Or.inr (Or.inr (Or.inr ⟨rfl, Or.inr ⟨_, rfl⟩⟩)), rfl, fun _ => rfl⟩
theorem okF10_143 : OKF 10 143 (10, 64, 2, true) := ⟨by decide, by decide, Or.inl q1564, Or.inr (Or.inr (Or.inr ⟨rfl, Or.inr ⟨_, rfl⟩⟩)), rfl, fun _ => rfl⟩
theorem okF10_146 : OKF 10 146 (10, 65, 2, true) := ⟨by decide, by decide, Or.inl q1565, Or.inr (Or.inr (Or.inr ⟨rfl, Or.inr ⟨_, rfl⟩⟩)), rfl, fun _ => rfl⟩
theorem okF10_149 : OKF 10 149 (10, 66, 2, true) := ⟨by decide, by decide, Or.inl q1566, Or.inr (Or.inr (Or.inr ⟨rfl, Or.inr ⟨_, rfl⟩⟩)), rfl, fun _ => rfl⟩
theorem okF10_152 : OKF 10 152 (10, 67, 2, true) := ⟨by decide, by decide, Or.inl q1567, Or.inr (Or.inr (Or.inr ⟨rfl, Or.inr ⟨_, rfl⟩⟩)), rfl, fun _ => rfl⟩
theorem okF10_155 : OKF 10 155 (10, 68, 2, true) := ⟨by decide, by decide, Or.inl q1568, Or.inr (Or.inr (Or.inr ⟨rfl, Or.inr ⟨_, rfl⟩⟩)), rfl, fun _ => rfl⟩
theorem okF10_158 : OKF 10 158 (10, 69, 2, true) := ⟨by decide, by decide, Or.inl q1569, Or.inr (Or.inr (Or.inr ⟨rfl, Or.inr ⟨_, rfl⟩⟩)), rfl, fun _ => rfl⟩
theorem okF10_161 : OKF 10 161 (10, 70, 2, true) := ⟨by decide, by decide, Or.inl q1570, Or.inr (Or.inr (Or.inr ⟨rfl, Or.inr ⟨_, rfl⟩⟩)), rfl, fun _ => rfl⟩
theorem okF10_164 : OKF 10 164 (10, 72, 2, true) := ⟨by decide, by decide, Or.inl q1572, Or.inr (Or.inr (Or.inr ⟨rfl, Or.inr ⟨_, rfl⟩⟩)), rfl, fun _ => rfl⟩
theorem okF10_168 : OKF 10 168 (10, 73, 2, true) := ⟨by decide, by decide, Or.inl q1573, Or.inr (Or.inr (Or.inr ⟨rfl, Or.inr ⟨_, rfl⟩⟩)), rfl, fun _ => rfl⟩
theorem okF10_171 : OKF 10 171 (10, 74, 2, true) := ⟨by decide, by decide, Or.inl q1574, Or.inr (Or.inr (Or.inr ⟨rfl, Or.inr ⟨_, rfl⟩⟩)), rfl, fun _ => rfl⟩
theorem okF10_174 : OKF 10 174 (10, 80, 2, true) := ⟨by decide, by decide, Or.inl q1580, Or.inr (Or.inr (Or.inr ⟨rfl, Or.inr ⟨_, rfl⟩⟩)), rfl, fun _ => rfl⟩
theorem okF10_177 : OKF 10 177 (10, 81, 2, true) := ⟨by decide, by decide, Or.inl q1581, Or.inr (Or.inr (Or.inr ⟨rfl, Or.inr ⟨_, rfl⟩⟩)), rfl, fun _ => rfl⟩
theorem okF10_180 : OKF 10 180 (10, 82, 2, true) := ⟨by decide, by decide, Or.inl q1582, Or.inr (Or.inr (Or.inr ⟨rfl, Or.inr ⟨_, rfl⟩⟩)), rfl, fun _ => rfl⟩
theorem okF10_183 : OKF 10 183 (10, 83, 2, true) := ⟨by decide, by decide, Or.inl q1583, Or.inr (Or.inr (Or.inr ⟨rfl, Or.inr ⟨_, rfl⟩⟩)), rfl, fun _ => rfl⟩
theorem okF10_186 : OKF 10 186 (10, 84, 2, true) := ⟨by decide, by decide, Or.inl q1584, Or.inr (Or.inr (Or.inr ⟨rfl, Or.inr ⟨_, rfl⟩⟩)), rfl, fun _ => rfl⟩
theorem okF10_189 : OKF 10 189 (10, 90, 2, true) := ⟨by decide, by decide, Or.inl q1590, Or.inr (Or.inr (Or.inr ⟨rfl, Or.inr ⟨_, rfl⟩⟩)), rfl, fun _ => rfl⟩
theorem okF10_192 : OKF 10 192 (10, 0, 0, false) := ⟨by decide, by decide, Or.inl q1500, Or.inl ⟨rfl, rfl⟩, rfl, fun _ => rfl⟩
theorem okF10_196 : OKF 10 196 (10, 2, 0, false) := ⟨by decide, by decide, Or.inl q1502, Or.inl ⟨rfl, rfl⟩, rfl, fun _ => rfl⟩
theorem okF10_218 : OKF 10 218 (10, 87, 3, false) := ⟨by decide, by decide, Or.inl q1587, Or.inr (Or.inl ⟨rfl, rfl⟩), rfl, fun _ => rfl⟩
theorem okF10_231 : OKF 10 231 (10, 7, 0, false) := ⟨by decide, by decide, Or.inl q1507, Or.inl ⟨rfl, rfl⟩, rfl, fun _ => rfl⟩
theorem okF10_257 : OKF 10 257 (10, 9, 0, false) := ⟨by decide, by decide, Or.inl q1509, Or.inl ⟨rfl, rfl⟩, rfl, fun _ => rfl⟩
theorem okF10_260 : OKF 10 260 (10, 10, 0, false) := ⟨by decide, by decide, Or.inl q1510, Or.inl ⟨rfl, rfl⟩, rfl, fun _ => rfl⟩
theorem okF10_263 : OKF 10 263 (10, 8, 0, false) := ⟨by decide, by decide, Or.inl q1508, Or.inl ⟨rfl, rfl⟩, rfl, fun _ => rfl⟩
theorem okF10_276 : OKF 10 276 (10, 11, 0, false) := ⟨by decide, by decide, Or.inl q1511, Or.inl ⟨rfl, rfl⟩, rfl, fun _ => rfl⟩
theorem okF10_336 : OKF 10 336 (10, 12, 0, false) := ⟨by decide, by decide, Or.inl q1512, Or.inl ⟨rfl, rfl⟩, rfl, fun _ => rfl⟩
theorem okF10_339 : OKF 10 339 (10, 18, 0, false) := ⟨by decide, by decide, Or.inl q1518, Or.inl ⟨rfl, rfl⟩, rfl, fun _ => rfl⟩
theorem okF10_346 : OKF 10 346 (10, 27, 0, false) := ⟨by decide, by decide, Or.inl q1527, Or.inl ⟨rfl, rfl⟩, rfl, fun _ => rfl⟩
theorem okF10_349 : OKF 10 349 (10, 42, 0, false) := ⟨by decide, by decide, Or.inl q1542, Or.inl ⟨rfl, rfl⟩, rfl, fun _ => rfl⟩
theorem okF10_352 : OKF 10 352 (10, 44, 0, false) := ⟨by decide, by decide, Or.inl q1544, Or.inl ⟨rfl, rfl⟩, rfl, fun _ => rfl⟩
theorem okF10_368 : OKF 10 368 (10, 51, 0, false) := ⟨by decide, by decide, Or.inl q1551, Or.inl ⟨rfl, rfl⟩, rfl, fun _ => rfl⟩
theorem okF10_380 : OKF 10 380 (10, 53, 0, false) := ⟨by decide, by decide, Or.inl q1553, Or.inl ⟨rfl, rfl⟩, rfl, fun _ => rfl⟩
theorem okF10_435 : OKF 10 435 (10, 38, 0, false) := ⟨by decide, by decide, Or.inl q1538, Or.inl ⟨rfl, rfl⟩, rfl, fun _ => rfl⟩
theorem okF10_441 : OKF 10 441 (10, 31, 0, false) := ⟨by decide, by decide, Or.inl q1531, Or.inl ⟨rfl, rfl⟩, rfl, fun _ => rfl⟩
theorem okF10_453 : OKF 10 453 (10, 35, 0, false) := ⟨by decide, by decide, Or.inl q1535, Or.inl ⟨rfl, rfl⟩, rfl, fun _ => rfl⟩
theorem okF10_494 : OKF 10 494 (10, 56, 0, false) := ⟨by decide, by decide, Or.inl q1556, Or.inl ⟨rfl, rfl⟩, rfl, fun _ => rfl⟩
theorem okF10_497 : OKF 10 497 (10, 63, 0, false) := ⟨by decide, by decide, Or.inl q1563, Or.inl ⟨rfl, rfl⟩, rfl, fun _ => rfl⟩
theorem okF10_509 : OKF 10 509 (10, 71, 0, false) := ⟨by decide, by decide, Or.inl q1571, Or.inl ⟨rfl, rfl⟩, rfl, fun _ => rfl⟩
theorem okF10_536 : OKF 10 536 (10, 88, 0, false) := ⟨by decide, by decide, Or.inl q1588, Or.inl ⟨rfl, rfl⟩, rfl, fun _ => rfl⟩
theorem okF10_542 : OKF 10 542 (10, 3, 0, false) := ⟨by decide, by decide, Or.inl q1503, Or.inl ⟨rfl, rfl⟩, rfl, fun _ => rfl⟩
theorem okF10_545 : OKF 10 545 (10, 54, 3, false) := ⟨by decide, by decide, Or.inl q1554, Or.inr (Or.inl ⟨rfl, rfl⟩), rfl, fun _ => rfl⟩
theorem okF10_548 : OKF 10 548 (10, 89, 0, false) := ⟨by decide, by decide, Or.inl q1589, Or.inl ⟨rfl, rfl⟩, rfl, fun _ => rfl⟩
theorem okF10_557 : OKF 10 557 (10, 75, 0, false) := ⟨by decide, by decide, Or.inl q1575, Or.inl ⟨rfl, rfl⟩, rfl, fun _ => rfl⟩
theorem okF10_560 : OKF 10 560 (10, 76, 0, false) := ⟨by decide, by decide, Or.inl q1576, Or.inl ⟨rfl, rfl⟩, rfl, fun _ => rfl⟩
theorem okF10_563 : OKF 10 563 (10, 79, 1, false) := ⟨by decide, by decide, Or.inl q1579, Or.inr (Or.inr (Or.inl ⟨rfl, rfl⟩)), rfl, fun _ => rfl⟩
theorem okF10_567 : OKF 10 567 (10, 77, 0, false) := ⟨by decide, by decide, Or.inl q1577, Or.inl ⟨rfl, rfl⟩, rfl, fun _ => rfl⟩
theorem okF10_570 : OKF 10 570 (10, 78, 0, false) := ⟨by decide, by decide, Or.inl q1578, Or.inl ⟨rfl, rfl⟩, rfl, fun _ => rfl⟩
theorem okF10_584 : OKF 10 584 (10, 85, 0, false) := ⟨by decide, by decide, Or.inl q1585, Or.inl ⟨rfl, rfl⟩, rfl, fun _ => rfl⟩
theorem okF10_605 : OKF 10 605 (10, 86, 0, false) := ⟨by decide, by decide, Or.inl q1586, Or.inl ⟨rfl, rfl⟩, rfl, fun _ => rfl⟩
theorem okFl10 : ∀ e ∈ fLs 10, OKF 10 e.1 e.2 := List.forall_mem_cons.mpr ⟨okF10_8, List.forall_mem_cons.mpr ⟨okF10_15, List.forall_mem_cons.mpr ⟨okF10_19, List.forall_mem_cons.mpr ⟨okF10_22, List.forall_mem_cons.mpr ⟨okF10_25, List.forall_mem_cons.mpr ⟨okF10_28, List.forall_mem_cons.mpr ⟨okF10_31, List.forall_mem_cons.mpr ⟨okF10_34, List.forall_mem_cons.mpr ⟨okF10_37, List.forall_mem_cons.mpr ⟨okF10_40, List.forall_mem_cons.mpr ⟨okF10_43, List.forall_mem_cons.mpr ⟨okF10_46, List.forall_mem_cons.mpr ⟨okF10_49, List.forall_mem_cons.mpr ⟨okF10_53, List.forall_mem_cons.mpr ⟨okF10_56, List.forall_mem_cons.mpr ⟨okF10_59, List.forall_mem_cons.mpr ⟨okF10_62, List.forall_mem_cons.mpr ⟨okF10_65, List.forall_mem_cons.mpr ⟨okF10_68, List.forall_mem_cons.mpr ⟨okF10_71, List.forall_mem_cons.mpr ⟨okF10_74, List.forall_mem_cons.mpr ⟨okF10_77, List.forall_mem_cons.mpr ⟨okF10_80, List.forall_mem_cons.mpr ⟨okF10_83, List.forall_mem_cons.mpr ⟨okF10_86, List.forall_mem_cons.mpr ⟨okF10_89, List.forall_mem_cons.mpr ⟨okF10_92, List.forall_mem_cons.mpr ⟨okF10_95, List.forall_mem_cons.mpr ⟨okF10_98, List.forall_mem_cons.mpr ⟨okF10_101, List.forall_mem_cons.mpr ⟨okF10_104, List.forall_mem_cons.mpr ⟨okF10_107, List.forall_mem_cons.mpr ⟨okF10_110, List.forall_mem_cons.mpr ⟨okF10_113, List.forall_mem_cons.mpr ⟨okF10_116, List.forall_mem_cons.mpr ⟨okF10_119, List.forall_mem_cons.mpr ⟨okF10_122, List.forall_mem_cons.mpr ⟨okF10_125, List.forall_mem_cons.mpr ⟨okF10_128, List.forall_mem_cons.mpr ⟨okF10_131, List.forall_mem_cons.mpr ⟨okF10_134, List.forall_mem_cons.mpr ⟨okF10_137, List.forall_mem_cons.mpr ⟨okF10_140, List.forall_mem_cons.mpr ⟨okF10_143, List.forall_mem_cons.mpr ⟨okF10_146, List.forall_mem_cons.mpr ⟨okF10_149, List.forall_mem_cons.mpr ⟨okF10_152, List.forall_mem_cons.mpr ⟨okF10_155, List.forall_mem_cons.mpr ⟨okF10_158, List.forall_mem_cons.mpr ⟨okF10_161, List.forall_mem_cons.mpr ⟨okF10_164, List.forall_mem_cons.mpr ⟨okF10_168, List.forall_mem_cons.mpr ⟨okF10_171, List.forall_mem_cons.mpr ⟨okF10_174, List.forall_mem_cons.mpr ⟨okF10_177, List.forall_mem_cons.mpr ⟨okF10_180, List.forall_mem_cons.mpr ⟨okF10_183, List.forall_mem_cons.mpr ⟨okF10_186, List.forall_mem_cons.mpr ⟨okF10_189, List.forall_mem_cons.mpr ⟨okF10_192, List.forall_mem_cons.mpr ⟨okF10_196, List.forall_mem_cons.mpr ⟨okF10_218, List.forall_mem_cons.mpr ⟨okF10_231, List.forall_mem_cons.mpr ⟨okF10_257, List.forall_mem_cons.mpr ⟨okF10_260, List.forall_mem_cons.mpr ⟨okF10_263, List.forall_mem_cons.mpr ⟨okF10_276, List.forall_mem_cons.mpr ⟨okF10_336, List.forall_mem_cons.mpr ⟨okF10_339, List.forall_mem_cons.mpr ⟨okF10_346, List.forall_mem_cons.mpr ⟨okF10_349, List.forall_mem_cons.mpr ⟨okF10_352, List.forall_mem_cons.mpr ⟨okF10_368, List.forall_mem_cons.mpr ⟨okF10_380, List.forall_mem_cons.mpr ⟨okF10_435, List.forall_mem_cons.mpr ⟨okF10_441, List.forall_mem_cons.mpr ⟨okF10_453, List.forall_mem_cons.mpr ⟨okF10_494, List.forall_mem_cons.mpr ⟨okF10_497, List.forall_mem_cons.mpr ⟨okF10_509, List.forall_mem_cons.mpr ⟨okF10_536, List.forall_mem_cons.mpr ⟨okF10_542, List.forall_mem_cons.mpr ⟨okF10_545, List.forall_mem_cons.mpr ⟨okF10_548, List.forall_mem_cons.mpr ⟨okF10_557, List.forall_mem_cons.mpr ⟨okF10_560, List.forall_mem_cons.mpr ⟨okF10_563, List.forall_mem_cons.mpr ⟨okF10_567, List.forall_mem_cons.mpr ⟨okF10_570, List.forall_mem_cons.mpr ⟨okF10_584, List.forall_mem_cons.mpr ⟨okF10_605, fun _ h => absurd h List.not_mem_nil⟩⟩⟩⟩⟩⟩⟩⟩⟩⟩⟩⟩⟩⟩⟩⟩⟩⟩⟩⟩⟩⟩⟩⟩⟩⟩⟩⟩⟩⟩⟩⟩⟩⟩⟩⟩⟩⟩⟩⟩⟩⟩⟩⟩⟩⟩⟩⟩⟩⟩⟩⟩⟩⟩⟩⟩⟩⟩⟩⟩⟩⟩⟩⟩⟩⟩⟩⟩⟩⟩⟩⟩⟩⟩⟩⟩⟩⟩⟩⟩⟩⟩⟩⟩⟩⟩⟩⟩⟩⟩⟩
theorem okFl11 : ∀ e ∈ fLs 11, OKF 11 e.1 e.2 := fun _ h => absurd h List.not_mem_nil
theorem lk_mem {α : Type} {l : List (Nat × α)} {n : Nat} {q : α} (h : l.lookup n = some q) : (n, q) ∈ l := by
  induction l with
  | nil => cases h
  | cons a r ih =>
    obtain ⟨m, b⟩ := a
    rw [List.lookup_cons] at h
    by_cases hq : n == m
    · rw [hq] at h
      cases h
      rw [beq_iff_eq] at hq
      subst hq
      exact List.mem_cons_self
    · rw [Bool.not_eq_true] at hq
      rw [hq] at h
      exact List.mem_cons_of_mem _ (ih h)
theorem okF : ∀ (w n : Nat) q, fT w n = some q → OKF w n q := by
  intro w n q h
  have hm := lk_mem h
  match w, hm with
  | 0, hm => exact okFl0 _ hm
  | 1, hm => exact okFl1 _ hm
  | 2, hm => exact okFl2 _ hm
  | 3, hm => exact okFl3 _ hm
  | 4, hm => exact okFl4 _ hm
  | 5, hm => exact okFl5 _ hm
  | 6, hm => exact okFl6 _ hm
  | 7, hm => exact okFl7 _ hm
  | 8, hm => exact okFl8 _ hm
  | 9, hm => exact okFl9 _ hm
  | 10, hm => exact okFl10 _ hm
  | 11, hm => exact okFl11 _ hm
  | w + 12, hm => exact absurd hm List.not_mem_nil
def mtL : List (MethodName × ByteArray × Option FieldType × List (Nat × Nat × Nat × Nat)) := [
  (yX0_feed, cX0_feed, some .int, [(0, 16, 19, 13)]),
  (yX0_end, cX0_end, some .int, [(0, 5, 8, 19)]),
  (yX0_count, cX0_count, some .int, [(0, 9, 12, 25), (0, 9, 15, 19)]),
  (yX0_find, cX0_find, some .int, [(0, 8, 11, 25)]),
  (yX0_signal, cX0_signal, some .int, [(0, 10, 13, 25), (0, 10, 17, 35), (0, 10, 21, 19)]),
  (yX0_reset, cX0_reset, some .int, [(0, 4, 7, 25)]),
  (yX0_set, cX0_set, some .int, [(0, 6, 9, 25), (0, 6, 12, 35), (0, 6, 15, 19)]),
  (yX0_step, cX0_step, some .int, [(0, 8, 11, 25)]),
  (yX0_value, cX0_value, some .int, [(0, 8, 11, 25), (0, 8, 14, 35)]),
  (yX0_failing, cX0_failing, some .int, [(0, 8, 11, 25)]),
  (yX1_init, cX1_init, none, []),
  (yX1_read, cX1_read, some .int, [(16, 20, 23, 46)]),
  (yX1_make, cX1_make, none, []),
  (yX1_fault, cX1_fault, some .int, []),
  (yX1_feed, cX1_feed, some .int, []),
  (yX1_end, cX1_end, none, []),
  (yX1_needs, cX1_needs, none, []),
  (yX1_count, cX1_count, some .int, []),
  (yX1_need, cX1_need, none, []),
  (yX1_find, cX1_find, some .int, []),
  (yX1_signal, cX1_signal, some .int, []),
  (yX1_signal_2, cX1_signal_2, none, []),
  (yX1_reset, cX1_reset, none, []),
  (yX1_set, cX1_set, none, []),
  (yX1_step, cX1_step, some .int, []),
  (yX1_reckon, cX1_reckon, none, []),
  (yX1_value, cX1_value, some .long, []),
  (yX1_failing, cX1_failing, some .int, []),
  (yX2_init, cX2_init, none, []),
  (yX2_begin, cX2_begin, none, []),
  (yX2_next, cX2_next, none, []),
  (yX2_blanks, cX2_blanks, none, []),
  (yX2_at, cX2_at, some .int, []),
  (yX2_flaw, cX2_flaw, some (.object "java/lang/IllegalStateException"), []),
  (yX2_isLetter, cX2_isLetter, some .boolean, []),
  (yX2_isWord, cX2_isWord, some .boolean, []),
  (yX2_isDigit, cX2_isDigit, some .boolean, []),
  (yX2_keyword, cX2_keyword, some .int, []),
  (yX2_isSized, cX2_isSized, some .boolean, []),
  (yX2_number, cX2_number, none, []),
  (yX2_digit, cX2_digit, some .int, []),
  (yX2_isFar, cX2_isFar, some .boolean, []),
  (yX2_sign, cX2_sign, none, []),
  (yX2_isSign, cX2_isSign, some .boolean, []),
  (yX2_need, cX2_need, none, []),
  (yX2_isHere, cX2_isHere, some .boolean, []),
  (yX3_init, cX3_init, none, []),
  (yX3_parse, cX3_parse, none, []),
  (yX3_design, cX3_design, none, []),
  (yX3_need, cX3_need, none, []),
  (yX3_flaw, cX3_flaw, some (.object "java/lang/IllegalStateException"), []),
  (yX3_module, cX3_module, none, []),
  (yX3_port, cX3_port, none, []),
  (yX3_range, cX3_range, some .int, []),
  (yX3_plain, cX3_plain, some .int, []),
  (yX3_declare, cX3_declare, some .int, []),
  (yX3_beginning, cX3_beginning, none, []),
  (yX3_item, cX3_item, none, []),
  (yX3_assign, cX3_assign, none, []),
  (yX3_used, cX3_used, some .int, []),
  (yX3_drive, cX3_drive, none, []),
  (yX3_exp, cX3_exp, none, []),
  (yX3_isUnary, cX3_isUnary, some .boolean, []),
  (yX3_wait, cX3_wait, none, []),
  (yX3_primary, cX3_primary, none, []),
  (yX3_code, cX3_code, none, []),
  (yX3_code_2, cX3_code_2, none, []),
  (yX3_wide, cX3_wide, none, []),
  (yX3_name, cX3_name, none, []),
  (yX3_opens, cX3_opens, none, []),
  (yX3_cost, cX3_cost, none, []),
  (yX3_bracketed, cX3_bracketed, none, []),
  (yX3_braces, cX3_braces, none, []),
  (yX3_done, cX3_done, none, []),
  (yX3_rank, cX3_rank, some .int, []),
  (yX3_choice, cX3_choice, none, []),
  (yX3_item_2, cX3_item_2, none, []),
  (yX3_every, cX3_every, none, []),
  (yX3_statement, cX3_statement, none, []),
  (yX3_act, cX3_act, none, []),
  (yX3_act_2, cX3_act_2, none, []),
  (yX3_among, cX3_among, none, []),
  (yX3_label, cX3_label, none, []),
  (yX3_set, cX3_set, none, []),
  (yX3_instance, cX3_instance, none, []),
  (yX3_link, cX3_link, none, []),
  (yX3_linked, cX3_linked, some .int, []),
  (yX3_ended, cX3_ended, none, []),
  (yX4_init, cX4_init, none, []),
  (yX4_at, cX4_at, some .int, []),
  (yX4_add, cX4_add, some .int, []),
  (yX4_set, cX4_set, none, []),
  (yX4_take, cX4_take, some .int, []),
  (yX4_top, cX4_top, some .int, []),
  (yX5_init, cX5_init, none, []),
  (yX5_make, cX5_make, none, []),
  (yX5_add, cX5_add, none, []),
  (yX5_sum, cX5_sum, some .int, []),
  (yX5_bounds, cX5_bounds, none, []),
  (yX5_total, cX5_total, some .int, []),
  (yX5_need, cX5_need, none, []),
  (yX5_instances, cX5_instances, none, []),
  (yX5_instance, cX5_instance, some .int, []),
  (yX5_edges, cX5_edges, none, []),
  (yX5_drivenBy, cX5_drivenBy, none, []),
  (yX5_symbol, cX5_symbol, some .int, []),
  (yX5_isInput, cX5_isInput, some .boolean, []),
  (yX5_span, cX5_span, none, []),
  (yX5_linked, cX5_linked, none, []),
  (yX5_signal, cX5_signal, some .int, []),
  (yX5_length, cX5_length, some .int, []),
  (yX5_rounds, cX5_rounds, none, []),
  (yX5_isRegister, cX5_isRegister, some .boolean, []),
  (yX5_isRound, cX5_isRound, some .boolean, []),
  (yX5_leaves, cX5_leaves, none, []),
  (yX5_width, cX5_width, some .int, []),
  (yX5_first, cX5_first, some .int, []),
  (yX5_signals, cX5_signals, none, []),
  (yX5_lay, cX5_lay, none, []),
  (yX5_work, cX5_work, none, []),
  (yX5_value, cX5_value, some .long, []),
  (yX5_nexts, cX5_nexts, none, []),
  (yX5_acts, cX5_acts, none, []),
  (yX5_set, cX5_set, none, []),
  (yX5_stateOf, cX5_stateOf, some .int, []),
  (yX5_truth, cX5_truth, some .int, []),
  (yX5_labels, cX5_labels, some .int, []),
  (yX5_find, cX5_find, some .int, []),
  (yX6_init, cX6_init, none, []),
  (yX6_clear, cX6_clear, none, []),
  (yX6_count, cX6_count, some .int, []),
  (yX6_findModule, cX6_findModule, some .int, []),
  (yX6_isText, cX6_isText, some .boolean, []),
  (yX6_find, cX6_find, some .int, []),
  (yX6_firstSymbol, cX6_firstSymbol, some .int, []),
  (yX6_lastSymbol, cX6_lastSymbol, some .int, []),
  (yX6_symbol, cX6_symbol, some .int, []),
  (yX6_width, cX6_width, some .int, []),
  (yX6_kind, cX6_kind, some .int, []),
  (yX6_isDriven, cX6_isDriven, some .boolean, []),
  (yX6_isRegister, cX6_isRegister, some .boolean, []),
  (yX6_ports, cX6_ports, some .int, []),
  (yX6_firstItem, cX6_firstItem, some .int, []),
  (yX6_lastItem, cX6_lastItem, some .int, []),
  (yX7_init, cX7_init, none, []),
  (yX7_clear, cX7_clear, none, []),
  (yX7_free, cX7_free, some .int, []),
  (yX7_mux, cX7_mux, some .int, []),
  (yX7_and, cX7_and, some .int, []),
  (yX7_bucket, cX7_bucket, some .int, []),
  (yX7_or, cX7_or, some .int, []),
  (yX7_xor, cX7_xor, some .int, []),
  (yX7_isFree, cX7_isFree, some .boolean, []),
  (yX8_init, cX8_init, none, []),
  (yX8_clear, cX8_clear, none, []),
  (yX8_constant, cX8_constant, none, []),
  (yX8_vector, cX8_vector, none, []),
  (yX8_part, cX8_part, none, []),
  (yX8_from, cX8_from, some .int, []),
  (yX8_result, cX8_result, none, []),
  (yX8_pick, cX8_pick, none, []),
  (yX8_width, cX8_width, some .int, []),
  (yX8_unary, cX8_unary, none, []),
  (yX8_truth, cX8_truth, some .int, []),
  (yX8_drop, cX8_drop, none, []),
  (yX8_one, cX8_one, none, []),
  (yX8_binary, cX8_binary, none, []),
  (yX8_same, cX8_same, some .int, []),
  (yX8_answer, cX8_answer, none, []),
  (yX8_compared, cX8_compared, none, []),
  (yX8_sum, cX8_sum, some .int, []),
  (yX8_moved, cX8_moved, none, []),
  (yX8_product, cX8_product, none, []),
  (yX8_choice, cX8_choice, none, []),
  (yX8_together, cX8_together, none, []),
  (yX8_times, cX8_times, none, []),
  (yX9_init, cX9_init, none, []),
  (yX9_begin, cX9_begin, none, []),
  (yX9_reckon, cX9_reckon, none, []),
  (yX9_bit, cX9_bit, some .int, []),
  (yX9_next, cX9_next, none, []),
  (yX9_value, cX9_value, some .long, []),
  (yX10_init, cX10_init, none, []),
  (yX10_thrown, cX10_thrown, some .int, []),
  (yX10_read, cX10_read, some .int, []),
  (yX10_readSource, cX10_readSource, none, []),
  (yX10_cutTokens, cX10_cutTokens, none, []),
  (yX10_skip, cX10_skip, some .int, []),
  (yX10_at, cX10_at, some .int, []),
  (yX10_token, cX10_token, none, []),
  (yX10_isLetter, cX10_isLetter, some .boolean, []),
  (yX10_isIn, cX10_isIn, some .boolean, []),
  (yX10_isDigit, cX10_isDigit, some .boolean, []),
  (yX10_wordKind, cX10_wordKind, some .int, []),
  (yX10_numberEnd, cX10_numberEnd, some .int, []),
  (yX10_numberKind, cX10_numberKind, some .int, []),
  (yX10_read_2, cX10_read_2, some .long, []),
  (yX10_digit, cX10_digit, some .int, []),
  (yX10_pair, cX10_pair, some .int, []),
  (yX10_isSign, cX10_isSign, some .boolean, []),
  (yX10_designGrammar, cX10_designGrammar, none, []),
  (yX10_take, cX10_take, none, []),
  (yX10_no, cX10_no, none, []),
  (yX10_fail, cX10_fail, none, []),
  (yX10_open, cX10_open, none, []),
  (yX10_is, cX10_is, some .boolean, []),
  (yX10_portGrammar, cX10_portGrammar, none, []),
  (yX10_rangeGrammar, cX10_rangeGrammar, none, []),
  (yX10_shut, cX10_shut, none, []),
  (yX10_beginGrammar, cX10_beginGrammar, none, []),
  (yX10_kind, cX10_kind, some .int, []),
  (yX10_itemGrammar, cX10_itemGrammar, none, []),
  (yX10_expGrammar, cX10_expGrammar, none, []),
  (yX10_operandGrammar, cX10_operandGrammar, none, []),
  (yX10_isUnary, cX10_isUnary, some .boolean, []),
  (yX10_partGrammar, cX10_partGrammar, none, []),
  (yX10_bracesGrammar, cX10_bracesGrammar, none, []),
  (yX10_rank, cX10_rank, some .int, []),
  (yX10_statementGrammar, cX10_statementGrammar, none, []),
  (yX10_caseGrammar, cX10_caseGrammar, none, []),
  (yX10_linkGrammar, cX10_linkGrammar, none, []),
  (yX10_design, cX10_design, none, []),
  (yX10_module, cX10_module, none, []),
  (yX10_moduleNamed, cX10_moduleNamed, some .int, []),
  (yX10_sameToken, cX10_sameToken, some .boolean, []),
  (yX10_port, cX10_port, none, []),
  (yX10_range, cX10_range, some .int, []),
  (yX10_numberOf, cX10_numberOf, some .long, []),
  (yX10_declare, cX10_declare, none, []),
  (yX10_here, cX10_here, some .int, []),
  (yX10_signalNamed, cX10_signalNamed, some .int, []),
  (yX10_isInstanceName, cX10_isInstanceName, some .boolean, []),
  (yX10_widthOfNumber, cX10_widthOfNumber, some .int, []),
  (yX10_item, cX10_item, none, []),
  (yX10_assign, cX10_assign, none, []),
  (yX10_isDriven, cX10_isDriven, some .boolean, []),
  (yX10_exp, cX10_exp, some .int, []),
  (yX10_binary, cX10_binary, some .int, []),
  (yX10_operand, cX10_operand, some .int, []),
  (yX10_primary, cX10_primary, some .int, []),
  (yX10_keepNumber, cX10_keepNumber, some .int, []),
  (yX10_lay, cX10_lay, none, []),
  (yX10_braces, cX10_braces, some .int, []),
  (yX10_part, cX10_part, some .int, []),
  (yX10_cost, cX10_cost, none, []),
  (yX10_pushWidth, cX10_pushWidth, none, []),
  (yX10_reckon, cX10_reckon, none, []),
  (yX10_statement, cX10_statement, none, []),
  (yX10_caseOf, cX10_caseOf, none, []),
  (yX10_patch, cX10_patch, none, []),
  (yX10_setting, cX10_setting, none, []),
  (yX10_isRegister, cX10_isRegister, some .boolean, []),
  (yX10_instance, cX10_instance, none, []),
  (yX10_link, cX10_link, none, []),
  (yX10_linkOf, cX10_linkOf, some .int, []),
  (yX10_most, cX10_most, some .long, []),
  (yX10_limits, cX10_limits, none, []),
  (yX10_bound, cX10_bound, none, []),
  (yX10_writeOut, cX10_writeOut, none, []),
  (yX10_begin, cX10_begin, none, []),
  (yX10_findRule, cX10_findRule, none, []),
  (yX10_signalOf, cX10_signalOf, some .int, []),
  (yX10_putInOrder, cX10_putInOrder, none, []),
  (yX10_canBe, cX10_canBe, some .boolean, []),
  (yX10_dependsOnItself, cX10_dependsOnItself, some .boolean, []),
  (yX10_sumUp, cX10_sumUp, none, []),
  (yX10_begin0, cX10_begin0, none, []),
  (yX10_settle, cX10_settle, none, []),
  (yX10_run, cX10_run, none, []),
  (yX10_push, cX10_push, none, []),
  (yX10_pop, cX10_pop, some .long, []),
  (yX10_mask, cX10_mask, some .long, []),
  (yX10_one, cX10_one, some .long, []),
  (yX10_two, cX10_two, some .long, []),
  (yX10_below, cX10_below, some .boolean, []),
  (yX10_feed, cX10_feed, some .int, []),
  (yX10_end, cX10_end, none, []),
  (yX10_fault, cX10_fault, some .int, []),
  (yX10_count, cX10_count, some .int, []),
  (yX10_find, cX10_find, some .int, []),
  (yX10_isNamed, cX10_isNamed, some .boolean, []),
  (yX10_goesOn, cX10_goesOn, some .boolean, []),
  (yX10_signal, cX10_signal, some .int, []),
  (yX10_isSignal, cX10_isSignal, some .boolean, []),
  (yX10_kindOf, cX10_kindOf, some .int, []),
  (yX10_reset, cX10_reset, none, []),
  (yX10_set, cX10_set, none, []),
  (yX10_step, cX10_step, some .int, []),
  (yX10_goOn, cX10_goOn, none, []),
  (yX10_value, cX10_value, some .long, []),
  (yX10_failing, cX10_failing, some .int, []),
  (yX10_failingNow, cX10_failingNow, some .int, []),
  (yJ10_max, cJ10_max, some .int, []),
  (yJ10_min, cJ10_min, some .int, []),
  (x, cL_law, some .boolean, [])]
def mtA (k : Nat) : MethodName × ByteArray × Option FieldType × List (Nat × Nat × Nat × Nat) := mtL.getD k (objectInit, ⟨#[]⟩, none, [])
def OKD (k : Nat) : Prop := ∀ pc i, codeAt k pc = some i → ∃ l, decode (mtA k).2.1 pc = .ok (i, l) ∧ (ilen i = 0 ∨ l = ilen i)
theorem okD_of {k : Nat} {f g : Nat → CT} {b : ByteArray} {n : Nat} (h : chkM f b n = true) (hf : ∀ pc, f pc = bif Nat.ble n pc then none else g pc) (hc : ∀ pc, codeAt k pc = f pc) (hb : (mtA k).2.1 = b) : OKD k := by
  intro pc i hi
  rw [hc] at hi
  rw [hb]
  refine chkM_at h ?_ hi
  rcases Nat.lt_or_ge pc n with q | q
  · exact q
  · rw [hf, Nat.ble_eq_true_of_le q] at hi
    cases hi
def OKM (k : Nat) : Prop := (Cond.code (mtA k).1 (mtA k).2.1 (mxL k) (mtA k).2.2.1 ∈ lw_all ∧ (mtA k).2.2.2 = [] ∧ hTab k = []) ∨ Cond.codeWith (mtA k).1 (mtA k).2.1 (mxL k) (mtA k).2.2.1 (mtA k).2.2.2 ∈ lw_all
def OKN (k : Nat) : Prop := OKD k ∧ plainName (mtA k).1.cls = true ∧ (mtA k).1.cls = oS (oN k) ∧ ((mtA k).1.cls ≠ "java/lang/invoke/MethodHandle" ∧ (mtA k).1.cls ≠ "java/lang/invoke/VarHandle") ∧ mxL k ≤ 29 ∧ Cond.initialized (mtA k).1.cls ∈ lw_all ∧ (iN k = 999 ∨ (mtA k).1.name = "<init>" ∧ (CI (iN k)).1 = oS (oN k)) ∧
  ((rTy k = 0 ∧ (mtA k).2.2.1 = none) ∨ (rTy k = 1 ∧ (mtA k).2.2.1 = some .int) ∨ (rTy k = 2 ∧ (mtA k).2.2.1 = some .long) ∨ (rTy k = 3 ∧ ∃ C, (mtA k).2.2.1 = some (.object C)) ∨ (rTy k = 4 ∧ (mtA k).2.2.1 = some .boolean))
theorem okN0 : OKN 0 := ⟨okD_of ck0 (fun _ => rfl) (fun _ => rfl) rfl, by decide +kernel, rfl, ⟨by decide +kernel, by decide +kernel⟩, by decide, q167, Or.inl rfl, Or.inr (Or.inl ⟨rfl, rfl⟩)⟩
theorem okM0 : OKM 0 := Or.inr q1295
theorem okN1 : OKN 1 := ⟨okD_of ck1 (fun _ => rfl) (fun _ => rfl) rfl, by decide +kernel, rfl, ⟨by decide +kernel, by decide +kernel⟩, by decide, q167, Or.inl rfl, Or.inr (Or.inl ⟨rfl, rfl⟩)⟩
theorem okM1 : OKM 1 := Or.inr q1320
theorem okN2 : OKN 2 := ⟨okD_of ck2 (fun _ => rfl) (fun _ => rfl) rfl, by decide +kernel, rfl, ⟨by decide +kernel, by decide +kernel⟩, by decide, q167, Or.inl rfl, Or.inr (Or.inl ⟨rfl, rfl⟩)⟩
theorem okM2 : OKM 2 := Or.inr q1347
theorem okN3 : OKN 3 := ⟨okD_of ck3 (fun _ => rfl) (fun _ => rfl) rfl, by decide +kernel, rfl, ⟨by decide +kernel, by decide +kernel⟩, by decide, q167, Or.inl rfl, Or.inr (Or.inl ⟨rfl, rfl⟩)⟩
theorem okM3 : OKM 3 := Or.inr q1364
theorem okN4 : OKN 4 := ⟨okD_of ck4 (fun _ => rfl) (fun _ => rfl) rfl, by decide +kernel, rfl, ⟨by decide +kernel, by decide +kernel⟩, by decide, q167, Or.inl rfl, Or.inr (Or.inl ⟨rfl, rfl⟩)⟩
theorem okM4 : OKM 4 := Or.inr q1376
theorem okN5 : OKN 5 := ⟨okD_of ck5 (fun _ => rfl) (fun _ => rfl) rfl, by decide +kernel, rfl, ⟨by decide +kernel, by decide +kernel⟩, by decide, q167, Or.inl rfl, Or.inr (Or.inl ⟨rfl, rfl⟩)⟩
theorem okM5 : OKM 5 := Or.inr q1429
theorem okN6 : OKN 6 := ⟨okD_of ck6 (fun _ => rfl) (fun _ => rfl) rfl, by decide +kernel, rfl, ⟨by decide +kernel, by decide +kernel⟩, by decide, q167, Or.inl rfl, Or.inr (Or.inl ⟨rfl, rfl⟩)⟩
theorem okM6 : OKM 6 := Or.inr q1436
theorem okN7 : OKN 7 := ⟨okD_of ck7 (fun _ => rfl) (fun _ => rfl) rfl, by decide +kernel, rfl, ⟨by decide +kernel, by decide +kernel⟩, by decide, q167, Or.inl rfl, Or.inr (Or.inl ⟨rfl, rfl⟩)⟩
theorem okM7 : OKM 7 := Or.inr q1445
theorem okN8 : OKN 8 := ⟨okD_of ck8 (fun _ => rfl) (fun _ => rfl) rfl, by decide +kernel, rfl, ⟨by decide +kernel, by decide +kernel⟩, by decide, q167, Or.inl rfl, Or.inr (Or.inl ⟨rfl, rfl⟩)⟩
theorem okM8 : OKM 8 := Or.inr q1473
theorem okN9 : OKN 9 := ⟨okD_of ck9 (fun _ => rfl) (fun _ => rfl) rfl, by decide +kernel, rfl, ⟨by decide +kernel, by decide +kernel⟩, by decide, q167, Or.inl rfl, Or.inr (Or.inl ⟨rfl, rfl⟩)⟩
theorem okM9 : OKM 9 := Or.inr q1486
theorem okN10 : OKN 10 := ⟨okD_of ck10 (fun _ => rfl) (fun _ => rfl) rfl, by decide +kernel, rfl, ⟨by decide +kernel, by decide +kernel⟩, by decide, q168, Or.inr ⟨rfl, rfl⟩, Or.inl ⟨rfl, rfl⟩⟩
theorem okM10 : OKM 10 := Or.inl ⟨q196, rfl, rfl⟩
theorem okN11 : OKN 11 := ⟨okD_of ck11 (fun _ => rfl) (fun _ => rfl) rfl, by decide +kernel, rfl, ⟨by decide +kernel, by decide +kernel⟩, by decide, q168, Or.inl rfl, Or.inr (Or.inl ⟨rfl, rfl⟩)⟩
theorem okM11 : OKM 11 := Or.inr q635
theorem okN12 : OKN 12 := ⟨okD_of ck12 (fun _ => rfl) (fun _ => rfl) rfl, by decide +kernel, rfl, ⟨by decide +kernel, by decide +kernel⟩, by decide, q168, Or.inl rfl, Or.inl ⟨rfl, rfl⟩⟩
theorem okM12 : OKM 12 := Or.inl ⟨q640, rfl, rfl⟩
theorem okN13 : OKN 13 := ⟨okD_of ck13 (fun _ => rfl) (fun _ => rfl) rfl, by decide +kernel, rfl, ⟨by decide +kernel, by decide +kernel⟩, by decide, q168, Or.inl rfl, Or.inr (Or.inl ⟨rfl, rfl⟩)⟩
theorem okM13 : OKM 13 := Or.inl ⟨q1292, rfl, rfl⟩
theorem okN14 : OKN 14 := ⟨okD_of ck14 (fun _ => rfl) (fun _ => rfl) rfl, by decide +kernel, rfl, ⟨by decide +kernel, by decide +kernel⟩, by decide, q168, Or.inl rfl, Or.inr (Or.inl ⟨rfl, rfl⟩)⟩
theorem okM14 : OKM 14 := Or.inl ⟨q1300, rfl, rfl⟩
theorem okN15 : OKN 15 := ⟨okD_of ck15 (fun _ => rfl) (fun _ => rfl) rfl, by decide +kernel, rfl, ⟨by decide +kernel, by decide +kernel⟩, by decide, q168, Or.inl rfl, Or.inl ⟨rfl, rfl⟩⟩
theorem okM15 : OKM 15 := Or.inl ⟨q1325, rfl, rfl⟩
theorem okN16 : OKN 16 := ⟨okD_of ck16 (fun _ => rfl) (fun _ => rfl) rfl, by decide +kernel, rfl, ⟨by decide +kernel, by decide +kernel⟩, by decide, q168, Or.inl rfl, Or.inl ⟨rfl, rfl⟩⟩
theorem okM16 : OKM 16 := Or.inl ⟨q1328, rfl, rfl⟩
theorem okN17 : OKN 17 := ⟨okD_of ck17 (fun _ => rfl) (fun _ => rfl) rfl, by decide +kernel, rfl, ⟨by decide +kernel, by decide +kernel⟩, by decide, q168, Or.inl rfl, Or.inr (Or.inl ⟨rfl, rfl⟩)⟩
theorem okM17 : OKM 17 := Or.inl ⟨q1352, rfl, rfl⟩
theorem okN18 : OKN 18 := ⟨okD_of ck18 (fun _ => rfl) (fun _ => rfl) rfl, by decide +kernel, rfl, ⟨by decide +kernel, by decide +kernel⟩, by decide, q168, Or.inl rfl, Or.inl ⟨rfl, rfl⟩⟩
theorem okM18 : OKM 18 := Or.inl ⟨q1356, rfl, rfl⟩
theorem okN19 : OKN 19 := ⟨okD_of ck19 (fun _ => rfl) (fun _ => rfl) rfl, by decide +kernel, rfl, ⟨by decide +kernel, by decide +kernel⟩, by decide, q168, Or.inl rfl, Or.inr (Or.inl ⟨rfl, rfl⟩)⟩
theorem okM19 : OKM 19 := Or.inl ⟨q1368, rfl, rfl⟩
theorem okN20 : OKN 20 := ⟨okD_of ck20 (fun _ => rfl) (fun _ => rfl) rfl, by decide +kernel, rfl, ⟨by decide +kernel, by decide +kernel⟩, by decide, q168, Or.inl rfl, Or.inr (Or.inl ⟨rfl, rfl⟩)⟩
theorem okM20 : OKM 20 := Or.inl ⟨q1404, rfl, rfl⟩
theorem okN21 : OKN 21 := ⟨okD_of ck21 (fun _ => rfl) (fun _ => rfl) rfl, by decide +kernel, rfl, ⟨by decide +kernel, by decide +kernel⟩, by decide, q168, Or.inl rfl, Or.inl ⟨rfl, rfl⟩⟩
theorem okM21 : OKM 21 := Or.inl ⟨q1408, rfl, rfl⟩
theorem okN22 : OKN 22 := ⟨okD_of ck22 (fun _ => rfl) (fun _ => rfl) rfl, by decide +kernel, rfl, ⟨by decide +kernel, by decide +kernel⟩, by decide, q168, Or.inl rfl, Or.inl ⟨rfl, rfl⟩⟩
theorem okM22 : OKM 22 := Or.inl ⟨q1433, rfl, rfl⟩
theorem okN23 : OKN 23 := ⟨okD_of ck23 (fun _ => rfl) (fun _ => rfl) rfl, by decide +kernel, rfl, ⟨by decide +kernel, by decide +kernel⟩, by decide, q168, Or.inl rfl, Or.inl ⟨rfl, rfl⟩⟩
theorem okM23 : OKM 23 := Or.inl ⟨q1440, rfl, rfl⟩
theorem okN24 : OKN 24 := ⟨okD_of ck24 (fun _ => rfl) (fun _ => rfl) rfl, by decide +kernel, rfl, ⟨by decide +kernel, by decide +kernel⟩, by decide, q168, Or.inl rfl, Or.inr (Or.inl ⟨rfl, rfl⟩)⟩
theorem okM24 : OKM 24 := Or.inl ⟨q1449, rfl, rfl⟩
theorem okN25 : OKN 25 := ⟨okD_of ck25 (fun _ => rfl) (fun _ => rfl) rfl, by decide +kernel, rfl, ⟨by decide +kernel, by decide +kernel⟩, by decide, q168, Or.inl rfl, Or.inl ⟨rfl, rfl⟩⟩
theorem okM25 : OKM 25 := Or.inl ⟨q1453, rfl, rfl⟩
theorem okN26 : OKN 26 := ⟨okD_of ck26 (fun _ => rfl) (fun _ => rfl) rfl, by decide +kernel, rfl, ⟨by decide +kernel, by decide +kernel⟩, by decide, q168, Or.inl rfl, Or.inr (Or.inr (Or.inl ⟨rfl, rfl⟩))⟩
theorem okM26 : OKM 26 := Or.inl ⟨q1477, rfl, rfl⟩
theorem okN27 : OKN 27 := ⟨okD_of ck27 (fun _ => rfl) (fun _ => rfl) rfl, by decide +kernel, rfl, ⟨by decide +kernel, by decide +kernel⟩, by decide, q168, Or.inl rfl, Or.inr (Or.inl ⟨rfl, rfl⟩)⟩
theorem okM27 : OKM 27 := Or.inl ⟨q1490, rfl, rfl⟩
theorem okN28 : OKN 28 := ⟨okD_of ck28 (fun _ => rfl) (fun _ => rfl) rfl, by decide +kernel, rfl, ⟨by decide +kernel, by decide +kernel⟩, by decide, q169, Or.inr ⟨rfl, rfl⟩, Or.inl ⟨rfl, rfl⟩⟩
theorem okM28 : OKM 28 := Or.inl ⟨q204, rfl, rfl⟩
theorem okN29 : OKN 29 := ⟨okD_of ck29 (fun _ => rfl) (fun _ => rfl) rfl, by decide +kernel, rfl, ⟨by decide +kernel, by decide +kernel⟩, by decide, q169, Or.inl rfl, Or.inl ⟨rfl, rfl⟩⟩
theorem okM29 : OKM 29 := Or.inl ⟨q656, rfl, rfl⟩
theorem okN30 : OKN 30 := ⟨okD_of ck30 (fun _ => rfl) (fun _ => rfl) rfl, by decide +kernel, rfl, ⟨by decide +kernel, by decide +kernel⟩, by decide, q169, Or.inl rfl, Or.inl ⟨rfl, rfl⟩⟩
theorem okM30 : OKM 30 := Or.inl ⟨q660, rfl, rfl⟩
theorem okN31 : OKN 31 := ⟨okD_of ck31 (fun _ => rfl) (fun _ => rfl) rfl, by decide +kernel, rfl, ⟨by decide +kernel, by decide +kernel⟩, by decide, q169, Or.inl rfl, Or.inl ⟨rfl, rfl⟩⟩
theorem okM31 : OKM 31 := Or.inl ⟨q664, rfl, rfl⟩
theorem okN32 : OKN 32 := ⟨okD_of ck32 (fun _ => rfl) (fun _ => rfl) rfl, by decide +kernel, rfl, ⟨by decide +kernel, by decide +kernel⟩, by decide, q169, Or.inl rfl, Or.inr (Or.inl ⟨rfl, rfl⟩)⟩
theorem okM32 : OKM 32 := Or.inl ⟨q668, rfl, rfl⟩
theorem okN33 : OKN 33 := ⟨okD_of ck33 (fun _ => rfl) (fun _ => rfl) rfl, by decide +kernel, rfl, ⟨by decide +kernel, by decide +kernel⟩, by decide, q169, Or.inl rfl, Or.inr (Or.inr (Or.inr (Or.inl ⟨rfl, _, rfl⟩)))⟩
theorem okM33 : OKM 33 := Or.inl ⟨q672, rfl, rfl⟩
theorem okN34 : OKN 34 := ⟨okD_of ck34 (fun _ => rfl) (fun _ => rfl) rfl, by decide +kernel, rfl, ⟨by decide +kernel, by decide +kernel⟩, by decide, q169, Or.inl rfl, Or.inr (Or.inr (Or.inr (Or.inr ⟨rfl, rfl⟩)))⟩
theorem okM34 : OKM 34 := Or.inl ⟨q675, rfl, rfl⟩
theorem okN35 : OKN 35 := ⟨okD_of ck35 (fun _ => rfl) (fun _ => rfl) rfl, by decide +kernel, rfl, ⟨by decide +kernel, by decide +kernel⟩, by decide, q169, Or.inl rfl, Or.inr (Or.inr (Or.inr (Or.inr ⟨rfl, rfl⟩)))⟩
theorem okM35 : OKM 35 := Or.inl ⟨q678, rfl, rfl⟩
theorem okN36 : OKN 36 := ⟨okD_of ck36 (fun _ => rfl) (fun _ => rfl) rfl, by decide +kernel, rfl, ⟨by decide +kernel, by decide +kernel⟩, by decide, q169, Or.inl rfl, Or.inr (Or.inr (Or.inr (Or.inr ⟨rfl, rfl⟩)))⟩
theorem okM36 : OKM 36 := Or.inl ⟨q681, rfl, rfl⟩
theorem okN37 : OKN 37 := ⟨okD_of ck37 (fun _ => rfl) (fun _ => rfl) rfl, by decide +kernel, rfl, ⟨by decide +kernel, by decide +kernel⟩, by decide, q169, Or.inl rfl, Or.inr (Or.inl ⟨rfl, rfl⟩)⟩
theorem okM37 : OKM 37 := Or.inl ⟨q685, rfl, rfl⟩
theorem okN38 : OKN 38 := ⟨okD_of ck38 (fun _ => rfl) (fun _ => rfl) rfl, by decide +kernel, rfl, ⟨by decide +kernel, by decide +kernel⟩, by decide, q169, Or.inl rfl, Or.inr (Or.inr (Or.inr (Or.inr ⟨rfl, rfl⟩)))⟩
theorem okM38 : OKM 38 := Or.inl ⟨q737, rfl, rfl⟩
theorem okN39 : OKN 39 := ⟨okD_of ck39 (fun _ => rfl) (fun _ => rfl) rfl, by decide +kernel, rfl, ⟨by decide +kernel, by decide +kernel⟩, by decide, q169, Or.inl rfl, Or.inl ⟨rfl, rfl⟩⟩
theorem okM39 : OKM 39 := Or.inl ⟨q741, rfl, rfl⟩
theorem okN40 : OKN 40 := ⟨okD_of ck40 (fun _ => rfl) (fun _ => rfl) rfl, by decide +kernel, rfl, ⟨by decide +kernel, by decide +kernel⟩, by decide, q169, Or.inl rfl, Or.inr (Or.inl ⟨rfl, rfl⟩)⟩
theorem okM40 : OKM 40 := Or.inl ⟨q745, rfl, rfl⟩
theorem okN41 : OKN 41 := ⟨okD_of ck41 (fun _ => rfl) (fun _ => rfl) rfl, by decide +kernel, rfl, ⟨by decide +kernel, by decide +kernel⟩, by decide, q169, Or.inl rfl, Or.inr (Or.inr (Or.inr (Or.inr ⟨rfl, rfl⟩)))⟩
theorem okM41 : OKM 41 := Or.inl ⟨q749, rfl, rfl⟩
theorem okN42 : OKN 42 := ⟨okD_of ck42 (fun _ => rfl) (fun _ => rfl) rfl, by decide +kernel, rfl, ⟨by decide +kernel, by decide +kernel⟩, by decide, q169, Or.inl rfl, Or.inl ⟨rfl, rfl⟩⟩
theorem okM42 : OKM 42 := Or.inl ⟨q754, rfl, rfl⟩
theorem okN43 : OKN 43 := ⟨okD_of ck43 (fun _ => rfl) (fun _ => rfl) rfl, by decide +kernel, rfl, ⟨by decide +kernel, by decide +kernel⟩, by decide, q169, Or.inl rfl, Or.inr (Or.inr (Or.inr (Or.inr ⟨rfl, rfl⟩)))⟩
theorem okM43 : OKM 43 := Or.inl ⟨q757, rfl, rfl⟩
theorem okN44 : OKN 44 := ⟨okD_of ck44 (fun _ => rfl) (fun _ => rfl) rfl, by decide +kernel, rfl, ⟨by decide +kernel, by decide +kernel⟩, by decide, q169, Or.inl rfl, Or.inl ⟨rfl, rfl⟩⟩
theorem okM44 : OKM 44 := Or.inl ⟨q774, rfl, rfl⟩
theorem okN45 : OKN 45 := ⟨okD_of ck45 (fun _ => rfl) (fun _ => rfl) rfl, by decide +kernel, rfl, ⟨by decide +kernel, by decide +kernel⟩, by decide, q169, Or.inl rfl, Or.inr (Or.inr (Or.inr (Or.inr ⟨rfl, rfl⟩)))⟩
theorem okM45 : OKM 45 := Or.inl ⟨q807, rfl, rfl⟩
theorem okN46 : OKN 46 := ⟨okD_of ck46 (fun _ => rfl) (fun _ => rfl) rfl, by decide +kernel, rfl, ⟨by decide +kernel, by decide +kernel⟩, by decide, q174, Or.inr ⟨rfl, rfl⟩, Or.inl ⟨rfl, rfl⟩⟩
theorem okM46 : OKM 46 := Or.inl ⟨q346, rfl, rfl⟩
theorem okN47 : OKN 47 := ⟨okD_of ck47 (fun _ => rfl) (fun _ => rfl) rfl, by decide +kernel, rfl, ⟨by decide +kernel, by decide +kernel⟩, by decide, q174, Or.inl rfl, Or.inl ⟨rfl, rfl⟩⟩
theorem okM47 : OKM 47 := Or.inl ⟨q644, rfl, rfl⟩
theorem okN48 : OKN 48 := ⟨okD_of ck48 (fun _ => rfl) (fun _ => rfl) rfl, by decide +kernel, rfl, ⟨by decide +kernel, by decide +kernel⟩, by decide, q174, Or.inl rfl, Or.inl ⟨rfl, rfl⟩⟩
theorem okM48 : OKM 48 := Or.inl ⟨q652, rfl, rfl⟩
theorem okN49 : OKN 49 := ⟨okD_of ck49 (fun _ => rfl) (fun _ => rfl) rfl, by decide +kernel, rfl, ⟨by decide +kernel, by decide +kernel⟩, by decide, q174, Or.inl rfl, Or.inl ⟨rfl, rfl⟩⟩
theorem okM49 : OKM 49 := Or.inl ⟨q761, rfl, rfl⟩
theorem okN50 : OKN 50 := ⟨okD_of ck50 (fun _ => rfl) (fun _ => rfl) rfl, by decide +kernel, rfl, ⟨by decide +kernel, by decide +kernel⟩, by decide, q174, Or.inl rfl, Or.inr (Or.inr (Or.inr (Or.inl ⟨rfl, _, rfl⟩)))⟩
theorem okM50 : OKM 50 := Or.inl ⟨q765, rfl, rfl⟩
theorem okN51 : OKN 51 := ⟨okD_of ck51 (fun _ => rfl) (fun _ => rfl) rfl, by decide +kernel, rfl, ⟨by decide +kernel, by decide +kernel⟩, by decide, q174, Or.inl rfl, Or.inl ⟨rfl, rfl⟩⟩
theorem okM51 : OKM 51 := Or.inl ⟨q770, rfl, rfl⟩
theorem okN52 : OKN 52 := ⟨okD_of ck52 (fun _ => rfl) (fun _ => rfl) rfl, by decide +kernel, rfl, ⟨by decide +kernel, by decide +kernel⟩, by decide, q174, Or.inl rfl, Or.inl ⟨rfl, rfl⟩⟩
theorem okM52 : OKM 52 := Or.inl ⟨q803, rfl, rfl⟩
theorem okN53 : OKN 53 := ⟨okD_of ck53 (fun _ => rfl) (fun _ => rfl) rfl, by decide +kernel, rfl, ⟨by decide +kernel, by decide +kernel⟩, by decide, q174, Or.inl rfl, Or.inr (Or.inl ⟨rfl, rfl⟩)⟩
theorem okM53 : OKM 53 := Or.inl ⟨q811, rfl, rfl⟩
theorem okN54 : OKN 54 := ⟨okD_of ck54 (fun _ => rfl) (fun _ => rfl) rfl, by decide +kernel, rfl, ⟨by decide +kernel, by decide +kernel⟩, by decide, q174, Or.inl rfl, Or.inr (Or.inl ⟨rfl, rfl⟩)⟩
theorem okM54 : OKM 54 := Or.inl ⟨q815, rfl, rfl⟩
theorem okN55 : OKN 55 := ⟨okD_of ck55 (fun _ => rfl) (fun _ => rfl) rfl, by decide +kernel, rfl, ⟨by decide +kernel, by decide +kernel⟩, by decide, q174, Or.inl rfl, Or.inr (Or.inl ⟨rfl, rfl⟩)⟩
theorem okM55 : OKM 55 := Or.inl ⟨q819, rfl, rfl⟩
theorem okN56 : OKN 56 := ⟨okD_of ck56 (fun _ => rfl) (fun _ => rfl) rfl, by decide +kernel, rfl, ⟨by decide +kernel, by decide +kernel⟩, by decide, q174, Or.inl rfl, Or.inl ⟨rfl, rfl⟩⟩
theorem okM56 : OKM 56 := Or.inl ⟨q839, rfl, rfl⟩
theorem okN57 : OKN 57 := ⟨okD_of ck57 (fun _ => rfl) (fun _ => rfl) rfl, by decide +kernel, rfl, ⟨by decide +kernel, by decide +kernel⟩, by decide, q174, Or.inl rfl, Or.inl ⟨rfl, rfl⟩⟩
theorem okM57 : OKM 57 := Or.inl ⟨q851, rfl, rfl⟩
theorem okN58 : OKN 58 := ⟨okD_of ck58 (fun _ => rfl) (fun _ => rfl) rfl, by decide +kernel, rfl, ⟨by decide +kernel, by decide +kernel⟩, by decide, q174, Or.inl rfl, Or.inl ⟨rfl, rfl⟩⟩
theorem okM58 : OKM 58 := Or.inl ⟨q855, rfl, rfl⟩
theorem okN59 : OKN 59 := ⟨okD_of ck59 (fun _ => rfl) (fun _ => rfl) rfl, by decide +kernel, rfl, ⟨by decide +kernel, by decide +kernel⟩, by decide, q174, Or.inl rfl, Or.inr (Or.inl ⟨rfl, rfl⟩)⟩
theorem okM59 : OKM 59 := Or.inl ⟨q859, rfl, rfl⟩
theorem okN60 : OKN 60 := ⟨okD_of ck60 (fun _ => rfl) (fun _ => rfl) rfl, by decide +kernel, rfl, ⟨by decide +kernel, by decide +kernel⟩, by decide, q174, Or.inl rfl, Or.inl ⟨rfl, rfl⟩⟩
theorem okM60 : OKM 60 := Or.inl ⟨q876, rfl, rfl⟩
theorem okN61 : OKN 61 := ⟨okD_of ck61 (fun _ => rfl) (fun _ => rfl) rfl, by decide +kernel, rfl, ⟨by decide +kernel, by decide +kernel⟩, by decide, q174, Or.inl rfl, Or.inl ⟨rfl, rfl⟩⟩
theorem okM61 : OKM 61 := Or.inl ⟨q882, rfl, rfl⟩
theorem okN62 : OKN 62 := ⟨okD_of ck62 (fun _ => rfl) (fun _ => rfl) rfl, by decide +kernel, rfl, ⟨by decide +kernel, by decide +kernel⟩, by decide, q174, Or.inl rfl, Or.inr (Or.inr (Or.inr (Or.inr ⟨rfl, rfl⟩)))⟩
theorem okM62 : OKM 62 := Or.inl ⟨q885, rfl, rfl⟩
theorem okN63 : OKN 63 := ⟨okD_of ck63 (fun _ => rfl) (fun _ => rfl) rfl, by decide +kernel, rfl, ⟨by decide +kernel, by decide +kernel⟩, by decide, q174, Or.inl rfl, Or.inl ⟨rfl, rfl⟩⟩
theorem okM63 : OKM 63 := Or.inl ⟨q889, rfl, rfl⟩
theorem okN64 : OKN 64 := ⟨okD_of ck64 (fun _ => rfl) (fun _ => rfl) rfl, by decide +kernel, rfl, ⟨by decide +kernel, by decide +kernel⟩, by decide, q174, Or.inl rfl, Or.inl ⟨rfl, rfl⟩⟩
theorem okM64 : OKM 64 := Or.inl ⟨q893, rfl, rfl⟩
theorem okN65 : OKN 65 := ⟨okD_of ck65 (fun _ => rfl) (fun _ => rfl) rfl, by decide +kernel, rfl, ⟨by decide +kernel, by decide +kernel⟩, by decide, q174, Or.inl rfl, Or.inl ⟨rfl, rfl⟩⟩
theorem okM65 : OKM 65 := Or.inl ⟨q897, rfl, rfl⟩
theorem okN66 : OKN 66 := ⟨okD_of ck66 (fun _ => rfl) (fun _ => rfl) rfl, by decide +kernel, rfl, ⟨by decide +kernel, by decide +kernel⟩, by decide, q174, Or.inl rfl, Or.inl ⟨rfl, rfl⟩⟩
theorem okM66 : OKM 66 := Or.inl ⟨q901, rfl, rfl⟩
theorem okN67 : OKN 67 := ⟨okD_of ck67 (fun _ => rfl) (fun _ => rfl) rfl, by decide +kernel, rfl, ⟨by decide +kernel, by decide +kernel⟩, by decide, q174, Or.inl rfl, Or.inl ⟨rfl, rfl⟩⟩
theorem okM67 : OKM 67 := Or.inl ⟨q905, rfl, rfl⟩
theorem okN68 : OKN 68 := ⟨okD_of ck68 (fun _ => rfl) (fun _ => rfl) rfl, by decide +kernel, rfl, ⟨by decide +kernel, by decide +kernel⟩, by decide, q174, Or.inl rfl, Or.inl ⟨rfl, rfl⟩⟩
theorem okM68 : OKM 68 := Or.inl ⟨q909, rfl, rfl⟩
theorem okN69 : OKN 69 := ⟨okD_of ck69 (fun _ => rfl) (fun _ => rfl) rfl, by decide +kernel, rfl, ⟨by decide +kernel, by decide +kernel⟩, by decide, q174, Or.inl rfl, Or.inl ⟨rfl, rfl⟩⟩
theorem okM69 : OKM 69 := Or.inl ⟨q913, rfl, rfl⟩
theorem okN70 : OKN 70 := ⟨okD_of ck70 (fun _ => rfl) (fun _ => rfl) rfl, by decide +kernel, rfl, ⟨by decide +kernel, by decide +kernel⟩, by decide, q174, Or.inl rfl, Or.inl ⟨rfl, rfl⟩⟩
theorem okM70 : OKM 70 := Or.inl ⟨q924, rfl, rfl⟩
theorem okN71 : OKN 71 := ⟨okD_of ck71 (fun _ => rfl) (fun _ => rfl) rfl, by decide +kernel, rfl, ⟨by decide +kernel, by decide +kernel⟩, by decide, q174, Or.inl rfl, Or.inl ⟨rfl, rfl⟩⟩
theorem okM71 : OKM 71 := Or.inl ⟨q931, rfl, rfl⟩
theorem okN72 : OKN 72 := ⟨okD_of ck72 (fun _ => rfl) (fun _ => rfl) rfl, by decide +kernel, rfl, ⟨by decide +kernel, by decide +kernel⟩, by decide, q174, Or.inl rfl, Or.inl ⟨rfl, rfl⟩⟩
theorem okM72 : OKM 72 := Or.inl ⟨q935, rfl, rfl⟩
theorem okN73 : OKN 73 := ⟨okD_of ck73 (fun _ => rfl) (fun _ => rfl) rfl, by decide +kernel, rfl, ⟨by decide +kernel, by decide +kernel⟩, by decide, q174, Or.inl rfl, Or.inl ⟨rfl, rfl⟩⟩
theorem okM73 : OKM 73 := Or.inl ⟨q943, rfl, rfl⟩
theorem okN74 : OKN 74 := ⟨okD_of ck74 (fun _ => rfl) (fun _ => rfl) rfl, by decide +kernel, rfl, ⟨by decide +kernel, by decide +kernel⟩, by decide, q174, Or.inl rfl, Or.inr (Or.inl ⟨rfl, rfl⟩)⟩
theorem okM74 : OKM 74 := Or.inl ⟨q946, rfl, rfl⟩
theorem okN75 : OKN 75 := ⟨okD_of ck75 (fun _ => rfl) (fun _ => rfl) rfl, by decide +kernel, rfl, ⟨by decide +kernel, by decide +kernel⟩, by decide, q174, Or.inl rfl, Or.inl ⟨rfl, rfl⟩⟩
theorem okM75 : OKM 75 := Or.inl ⟨q950, rfl, rfl⟩
theorem okN76 : OKN 76 := ⟨okD_of ck76 (fun _ => rfl) (fun _ => rfl) rfl, by decide +kernel, rfl, ⟨by decide +kernel, by decide +kernel⟩, by decide, q174, Or.inl rfl, Or.inl ⟨rfl, rfl⟩⟩
theorem okM76 : OKM 76 := Or.inl ⟨q954, rfl, rfl⟩
theorem okN77 : OKN 77 := ⟨okD_of ck77 (fun _ => rfl) (fun _ => rfl) rfl, by decide +kernel, rfl, ⟨by decide +kernel, by decide +kernel⟩, by decide, q174, Or.inl rfl, Or.inl ⟨rfl, rfl⟩⟩
theorem okM77 : OKM 77 := Or.inl ⟨q958, rfl, rfl⟩
theorem okN78 : OKN 78 := ⟨okD_of ck78 (fun _ => rfl) (fun _ => rfl) rfl, by decide +kernel, rfl, ⟨by decide +kernel, by decide +kernel⟩, by decide, q174, Or.inl rfl, Or.inl ⟨rfl, rfl⟩⟩
theorem okM78 : OKM 78 := Or.inl ⟨q962, rfl, rfl⟩
theorem okN79 : OKN 79 := ⟨okD_of ck79 (fun _ => rfl) (fun _ => rfl) rfl, by decide +kernel, rfl, ⟨by decide +kernel, by decide +kernel⟩, by decide, q174, Or.inl rfl, Or.inl ⟨rfl, rfl⟩⟩
theorem okM79 : OKM 79 := Or.inl ⟨q966, rfl, rfl⟩
theorem okN80 : OKN 80 := ⟨okD_of ck80 (fun _ => rfl) (fun _ => rfl) rfl, by decide +kernel, rfl, ⟨by decide +kernel, by decide +kernel⟩, by decide, q174, Or.inl rfl, Or.inl ⟨rfl, rfl⟩⟩
theorem okM80 : OKM 80 := Or.inl ⟨q970, rfl, rfl⟩
theorem okN81 : OKN 81 := ⟨okD_of ck81 (fun _ => rfl) (fun _ => rfl) rfl, by decide +kernel, rfl, ⟨by decide +kernel, by decide +kernel⟩, by decide, q174, Or.inl rfl, Or.inl ⟨rfl, rfl⟩⟩
theorem okM81 : OKM 81 := Or.inl ⟨q974, rfl, rfl⟩
theorem okN82 : OKN 82 := ⟨okD_of ck82 (fun _ => rfl) (fun _ => rfl) rfl, by decide +kernel, rfl, ⟨by decide +kernel, by decide +kernel⟩, by decide, q174, Or.inl rfl, Or.inl ⟨rfl, rfl⟩⟩
theorem okM82 : OKM 82 := Or.inl ⟨q978, rfl, rfl⟩
theorem okN83 : OKN 83 := ⟨okD_of ck83 (fun _ => rfl) (fun _ => rfl) rfl, by decide +kernel, rfl, ⟨by decide +kernel, by decide +kernel⟩, by decide, q174, Or.inl rfl, Or.inl ⟨rfl, rfl⟩⟩
theorem okM83 : OKM 83 := Or.inl ⟨q982, rfl, rfl⟩
theorem okN84 : OKN 84 := ⟨okD_of ck84 (fun _ => rfl) (fun _ => rfl) rfl, by decide +kernel, rfl, ⟨by decide +kernel, by decide +kernel⟩, by decide, q174, Or.inl rfl, Or.inl ⟨rfl, rfl⟩⟩
theorem okM84 : OKM 84 := Or.inl ⟨q986, rfl, rfl⟩
theorem okN85 : OKN 85 := ⟨okD_of ck85 (fun _ => rfl) (fun _ => rfl) rfl, by decide +kernel, rfl, ⟨by decide +kernel, by decide +kernel⟩, by decide, q174, Or.inl rfl, Or.inl ⟨rfl, rfl⟩⟩
theorem okM85 : OKM 85 := Or.inl ⟨q994, rfl, rfl⟩
theorem okN86 : OKN 86 := ⟨okD_of ck86 (fun _ => rfl) (fun _ => rfl) rfl, by decide +kernel, rfl, ⟨by decide +kernel, by decide +kernel⟩, by decide, q174, Or.inl rfl, Or.inr (Or.inl ⟨rfl, rfl⟩)⟩
theorem okM86 : OKM 86 := Or.inl ⟨q998, rfl, rfl⟩
theorem okN87 : OKN 87 := ⟨okD_of ck87 (fun _ => rfl) (fun _ => rfl) rfl, by decide +kernel, rfl, ⟨by decide +kernel, by decide +kernel⟩, by decide, q174, Or.inl rfl, Or.inl ⟨rfl, rfl⟩⟩
theorem okM87 : OKM 87 := Or.inl ⟨q1002, rfl, rfl⟩
theorem okN88 : OKN 88 := ⟨okD_of ck88 (fun _ => rfl) (fun _ => rfl) rfl, by decide +kernel, rfl, ⟨by decide +kernel, by decide +kernel⟩, by decide, q175, Or.inr ⟨rfl, rfl⟩, Or.inl ⟨rfl, rfl⟩⟩
theorem okM88 : OKM 88 := Or.inl ⟨q352, rfl, rfl⟩
theorem okN89 : OKN 89 := ⟨okD_of ck89 (fun _ => rfl) (fun _ => rfl) rfl, by decide +kernel, rfl, ⟨by decide +kernel, by decide +kernel⟩, by decide, q175, Or.inl rfl, Or.inr (Or.inl ⟨rfl, rfl⟩)⟩
theorem okM89 : OKM 89 := Or.inl ⟨q787, rfl, rfl⟩
theorem okN90 : OKN 90 := ⟨okD_of ck90 (fun _ => rfl) (fun _ => rfl) rfl, by decide +kernel, rfl, ⟨by decide +kernel, by decide +kernel⟩, by decide, q175, Or.inl rfl, Or.inr (Or.inl ⟨rfl, rfl⟩)⟩
theorem okM90 : OKM 90 := Or.inl ⟨q795, rfl, rfl⟩
theorem okN91 : OKN 91 := ⟨okD_of ck91 (fun _ => rfl) (fun _ => rfl) rfl, by decide +kernel, rfl, ⟨by decide +kernel, by decide +kernel⟩, by decide, q175, Or.inl rfl, Or.inl ⟨rfl, rfl⟩⟩
theorem okM91 : OKM 91 := Or.inl ⟨q847, rfl, rfl⟩
theorem okN92 : OKN 92 := ⟨okD_of ck92 (fun _ => rfl) (fun _ => rfl) rfl, by decide +kernel, rfl, ⟨by decide +kernel, by decide +kernel⟩, by decide, q175, Or.inl rfl, Or.inr (Or.inl ⟨rfl, rfl⟩)⟩
theorem okM92 : OKM 92 := Or.inl ⟨q917, rfl, rfl⟩
theorem okN93 : OKN 93 := ⟨okD_of ck93 (fun _ => rfl) (fun _ => rfl) rfl, by decide +kernel, rfl, ⟨by decide +kernel, by decide +kernel⟩, by decide, q175, Or.inl rfl, Or.inr (Or.inl ⟨rfl, rfl⟩)⟩
theorem okM93 : OKM 93 := Or.inl ⟨q939, rfl, rfl⟩
theorem okN94 : OKN 94 := ⟨okD_of ck94 (fun _ => rfl) (fun _ => rfl) rfl, by decide +kernel, rfl, ⟨by decide +kernel, by decide +kernel⟩, by decide, q176, Or.inr ⟨rfl, rfl⟩, Or.inl ⟨rfl, rfl⟩⟩
theorem okM94 : OKM 94 := Or.inl ⟨q406, rfl, rfl⟩
theorem okN95 : OKN 95 := ⟨okD_of ck95 (fun _ => rfl) (fun _ => rfl) rfl, by decide +kernel, rfl, ⟨by decide +kernel, by decide +kernel⟩, by decide, q176, Or.inl rfl, Or.inl ⟨rfl, rfl⟩⟩
theorem okM95 : OKM 95 := Or.inl ⟨q1007, rfl, rfl⟩
theorem okN96 : OKN 96 := ⟨okD_of ck96 (fun _ => rfl) (fun _ => rfl) rfl, by decide +kernel, rfl, ⟨by decide +kernel, by decide +kernel⟩, by decide, q176, Or.inl rfl, Or.inl ⟨rfl, rfl⟩⟩
theorem okM96 : OKM 96 := Or.inl ⟨q1011, rfl, rfl⟩
theorem okN97 : OKN 97 := ⟨okD_of ck97 (fun _ => rfl) (fun _ => rfl) rfl, by decide +kernel, rfl, ⟨by decide +kernel, by decide +kernel⟩, by decide, q176, Or.inl rfl, Or.inr (Or.inl ⟨rfl, rfl⟩)⟩
theorem okM97 : OKM 97 := Or.inl ⟨q1021, rfl, rfl⟩
theorem okN98 : OKN 98 := ⟨okD_of ck98 (fun _ => rfl) (fun _ => rfl) rfl, by decide +kernel, rfl, ⟨by decide +kernel, by decide +kernel⟩, by decide, q176, Or.inl rfl, Or.inl ⟨rfl, rfl⟩⟩
theorem okM98 : OKM 98 := Or.inl ⟨q1038, rfl, rfl⟩
theorem okN99 : OKN 99 := ⟨okD_of ck99 (fun _ => rfl) (fun _ => rfl) rfl, by decide +kernel, rfl, ⟨by decide +kernel, by decide +kernel⟩, by decide, q176, Or.inl rfl, Or.inr (Or.inl ⟨rfl, rfl⟩)⟩
theorem okM99 : OKM 99 := Or.inl ⟨q1042, rfl, rfl⟩
theorem okN100 : OKN 100 := ⟨okD_of ck100 (fun _ => rfl) (fun _ => rfl) rfl, by decide +kernel, rfl, ⟨by decide +kernel, by decide +kernel⟩, by decide, q176, Or.inl rfl, Or.inl ⟨rfl, rfl⟩⟩
theorem okM100 : OKM 100 := Or.inl ⟨q1046, rfl, rfl⟩
theorem okN101 : OKN 101 := ⟨okD_of ck101 (fun _ => rfl) (fun _ => rfl) rfl, by decide +kernel, rfl, ⟨by decide +kernel, by decide +kernel⟩, by decide, q176, Or.inl rfl, Or.inl ⟨rfl, rfl⟩⟩
theorem okM101 : OKM 101 := Or.inl ⟨q1053, rfl, rfl⟩
theorem okN102 : OKN 102 := ⟨okD_of ck102 (fun _ => rfl) (fun _ => rfl) rfl, by decide +kernel, rfl, ⟨by decide +kernel, by decide +kernel⟩, by decide, q176, Or.inl rfl, Or.inr (Or.inl ⟨rfl, rfl⟩)⟩
theorem okM102 : OKM 102 := Or.inl ⟨q1057, rfl, rfl⟩
theorem okN103 : OKN 103 := ⟨okD_of ck103 (fun _ => rfl) (fun _ => rfl) rfl, by decide +kernel, rfl, ⟨by decide +kernel, by decide +kernel⟩, by decide, q176, Or.inl rfl, Or.inl ⟨rfl, rfl⟩⟩
theorem okM103 : OKM 103 := Or.inl ⟨q1062, rfl, rfl⟩
theorem okN104 : OKN 104 := ⟨okD_of ck104 (fun _ => rfl) (fun _ => rfl) rfl, by decide +kernel, rfl, ⟨by decide +kernel, by decide +kernel⟩, by decide, q176, Or.inl rfl, Or.inl ⟨rfl, rfl⟩⟩
theorem okM104 : OKM 104 := Or.inl ⟨q1066, rfl, rfl⟩
theorem okN105 : OKN 105 := ⟨okD_of ck105 (fun _ => rfl) (fun _ => rfl) rfl, by decide +kernel, rfl, ⟨by decide +kernel, by decide +kernel⟩, by decide, q176, Or.inl rfl, Or.inr (Or.inl ⟨rfl, rfl⟩)⟩
theorem okM105 : OKM 105 := Or.inl ⟨q1070, rfl, rfl⟩
theorem okN106 : OKN 106 := ⟨okD_of ck106 (fun _ => rfl) (fun _ => rfl) rfl, by decide +kernel, rfl, ⟨by decide +kernel, by decide +kernel⟩, by decide, q176, Or.inl rfl, Or.inr (Or.inr (Or.inr (Or.inr ⟨rfl, rfl⟩)))⟩
theorem okM106 : OKM 106 := Or.inl ⟨q1074, rfl, rfl⟩
theorem okN107 : OKN 107 := ⟨okD_of ck107 (fun _ => rfl) (fun _ => rfl) rfl, by decide +kernel, rfl, ⟨by decide +kernel, by decide +kernel⟩, by decide, q176, Or.inl rfl, Or.inl ⟨rfl, rfl⟩⟩
theorem okM107 : OKM 107 := Or.inl ⟨q1078, rfl, rfl⟩
theorem okN108 : OKN 108 := ⟨okD_of ck108 (fun _ => rfl) (fun _ => rfl) rfl, by decide +kernel, rfl, ⟨by decide +kernel, by decide +kernel⟩, by decide, q176, Or.inl rfl, Or.inl ⟨rfl, rfl⟩⟩
theorem okM108 : OKM 108 := Or.inl ⟨q1082, rfl, rfl⟩
theorem okN109 : OKN 109 := ⟨okD_of ck109 (fun _ => rfl) (fun _ => rfl) rfl, by decide +kernel, rfl, ⟨by decide +kernel, by decide +kernel⟩, by decide, q176, Or.inl rfl, Or.inr (Or.inl ⟨rfl, rfl⟩)⟩
theorem okM109 : OKM 109 := Or.inl ⟨q1087, rfl, rfl⟩
theorem okN110 : OKN 110 := ⟨okD_of ck110 (fun _ => rfl) (fun _ => rfl) rfl, by decide +kernel, rfl, ⟨by decide +kernel, by decide +kernel⟩, by decide, q176, Or.inl rfl, Or.inr (Or.inl ⟨rfl, rfl⟩)⟩
theorem okM110 : OKM 110 := Or.inl ⟨q1091, rfl, rfl⟩
theorem okN111 : OKN 111 := ⟨okD_of ck111 (fun _ => rfl) (fun _ => rfl) rfl, by decide +kernel, rfl, ⟨by decide +kernel, by decide +kernel⟩, by decide, q176, Or.inl rfl, Or.inl ⟨rfl, rfl⟩⟩
theorem okM111 : OKM 111 := Or.inl ⟨q1095, rfl, rfl⟩
theorem okN112 : OKN 112 := ⟨okD_of ck112 (fun _ => rfl) (fun _ => rfl) rfl, by decide +kernel, rfl, ⟨by decide +kernel, by decide +kernel⟩, by decide, q176, Or.inl rfl, Or.inr (Or.inr (Or.inr (Or.inr ⟨rfl, rfl⟩)))⟩
theorem okM112 : OKM 112 := Or.inl ⟨q1099, rfl, rfl⟩
theorem okN113 : OKN 113 := ⟨okD_of ck113 (fun _ => rfl) (fun _ => rfl) rfl, by decide +kernel, rfl, ⟨by decide +kernel, by decide +kernel⟩, by decide, q176, Or.inl rfl, Or.inr (Or.inr (Or.inr (Or.inr ⟨rfl, rfl⟩)))⟩
theorem okM113 : OKM 113 := Or.inl ⟨q1103, rfl, rfl⟩
theorem okN114 : OKN 114 := ⟨okD_of ck114 (fun _ => rfl) (fun _ => rfl) rfl, by decide +kernel, rfl, ⟨by decide +kernel, by decide +kernel⟩, by decide, q176, Or.inl rfl, Or.inl ⟨rfl, rfl⟩⟩
theorem okM114 : OKM 114 := Or.inl ⟨q1107, rfl, rfl⟩
theorem okN115 : OKN 115 := ⟨okD_of ck115 (fun _ => rfl) (fun _ => rfl) rfl, by decide +kernel, rfl, ⟨by decide +kernel, by decide +kernel⟩, by decide, q176, Or.inl rfl, Or.inr (Or.inl ⟨rfl, rfl⟩)⟩
theorem okM115 : OKM 115 := Or.inl ⟨q1116, rfl, rfl⟩
theorem okN116 : OKN 116 := ⟨okD_of ck116 (fun _ => rfl) (fun _ => rfl) rfl, by decide +kernel, rfl, ⟨by decide +kernel, by decide +kernel⟩, by decide, q176, Or.inl rfl, Or.inr (Or.inl ⟨rfl, rfl⟩)⟩
theorem okM116 : OKM 116 := Or.inl ⟨q1124, rfl, rfl⟩
theorem okN117 : OKN 117 := ⟨okD_of ck117 (fun _ => rfl) (fun _ => rfl) rfl, by decide +kernel, rfl, ⟨by decide +kernel, by decide +kernel⟩, by decide, q176, Or.inl rfl, Or.inl ⟨rfl, rfl⟩⟩
theorem okM117 : OKM 117 := Or.inl ⟨q1128, rfl, rfl⟩
theorem okN118 : OKN 118 := ⟨okD_of ck118 (fun _ => rfl) (fun _ => rfl) rfl, by decide +kernel, rfl, ⟨by decide +kernel, by decide +kernel⟩, by decide, q176, Or.inl rfl, Or.inl ⟨rfl, rfl⟩⟩
theorem okM118 : OKM 118 := Or.inl ⟨q1133, rfl, rfl⟩
theorem okN119 : OKN 119 := ⟨okD_of ck119 (fun _ => rfl) (fun _ => rfl) rfl, by decide +kernel, rfl, ⟨by decide +kernel, by decide +kernel⟩, by decide, q176, Or.inl rfl, Or.inl ⟨rfl, rfl⟩⟩
theorem okM119 : OKM 119 := Or.inl ⟨q1141, rfl, rfl⟩
theorem okN120 : OKN 120 := ⟨okD_of ck120 (fun _ => rfl) (fun _ => rfl) rfl, by decide +kernel, rfl, ⟨by decide +kernel, by decide +kernel⟩, by decide, q176, Or.inl rfl, Or.inr (Or.inr (Or.inl ⟨rfl, rfl⟩))⟩
theorem okM120 : OKM 120 := Or.inl ⟨q1145, rfl, rfl⟩
theorem okN121 : OKN 121 := ⟨okD_of ck121 (fun _ => rfl) (fun _ => rfl) rfl, by decide +kernel, rfl, ⟨by decide +kernel, by decide +kernel⟩, by decide, q176, Or.inl rfl, Or.inl ⟨rfl, rfl⟩⟩
theorem okM121 : OKM 121 := Or.inl ⟨q1260, rfl, rfl⟩
theorem okN122 : OKN 122 := ⟨okD_of ck122 (fun _ => rfl) (fun _ => rfl) rfl, by decide +kernel, rfl, ⟨by decide +kernel, by decide +kernel⟩, by decide, q176, Or.inl rfl, Or.inl ⟨rfl, rfl⟩⟩
theorem okM122 : OKM 122 := Or.inl ⟨q1264, rfl, rfl⟩
theorem okN123 : OKN 123 := ⟨okD_of ck123 (fun _ => rfl) (fun _ => rfl) rfl, by decide +kernel, rfl, ⟨by decide +kernel, by decide +kernel⟩, by decide, q176, Or.inl rfl, Or.inl ⟨rfl, rfl⟩⟩
theorem okM123 : OKM 123 := Or.inl ⟨q1268, rfl, rfl⟩
theorem okN124 : OKN 124 := ⟨okD_of ck124 (fun _ => rfl) (fun _ => rfl) rfl, by decide +kernel, rfl, ⟨by decide +kernel, by decide +kernel⟩, by decide, q176, Or.inl rfl, Or.inr (Or.inl ⟨rfl, rfl⟩)⟩
theorem okM124 : OKM 124 := Or.inl ⟨q1272, rfl, rfl⟩
theorem okN125 : OKN 125 := ⟨okD_of ck125 (fun _ => rfl) (fun _ => rfl) rfl, by decide +kernel, rfl, ⟨by decide +kernel, by decide +kernel⟩, by decide, q176, Or.inl rfl, Or.inr (Or.inl ⟨rfl, rfl⟩)⟩
theorem okM125 : OKM 125 := Or.inl ⟨q1277, rfl, rfl⟩
theorem okN126 : OKN 126 := ⟨okD_of ck126 (fun _ => rfl) (fun _ => rfl) rfl, by decide +kernel, rfl, ⟨by decide +kernel, by decide +kernel⟩, by decide, q176, Or.inl rfl, Or.inr (Or.inl ⟨rfl, rfl⟩)⟩
theorem okM126 : OKM 126 := Or.inl ⟨q1283, rfl, rfl⟩
theorem okN127 : OKN 127 := ⟨okD_of ck127 (fun _ => rfl) (fun _ => rfl) rfl, by decide +kernel, rfl, ⟨by decide +kernel, by decide +kernel⟩, by decide, q176, Or.inl rfl, Or.inr (Or.inl ⟨rfl, rfl⟩)⟩
theorem okM127 : OKM 127 := Or.inl ⟨q1372, rfl, rfl⟩
theorem okN128 : OKN 128 := ⟨okD_of ck128 (fun _ => rfl) (fun _ => rfl) rfl, by decide +kernel, rfl, ⟨by decide +kernel, by decide +kernel⟩, by decide, q177, Or.inr ⟨rfl, rfl⟩, Or.inl ⟨rfl, rfl⟩⟩
theorem okM128 : OKM 128 := Or.inl ⟨q412, rfl, rfl⟩
theorem okN129 : OKN 129 := ⟨okD_of ck129 (fun _ => rfl) (fun _ => rfl) rfl, by decide +kernel, rfl, ⟨by decide +kernel, by decide +kernel⟩, by decide, q177, Or.inl rfl, Or.inl ⟨rfl, rfl⟩⟩
theorem okM129 : OKM 129 := Or.inl ⟨q648, rfl, rfl⟩
theorem okN130 : OKN 130 := ⟨okD_of ck130 (fun _ => rfl) (fun _ => rfl) rfl, by decide +kernel, rfl, ⟨by decide +kernel, by decide +kernel⟩, by decide, q177, Or.inl rfl, Or.inr (Or.inl ⟨rfl, rfl⟩)⟩
theorem okM130 : OKM 130 := Or.inl ⟨q778, rfl, rfl⟩
theorem okN131 : OKN 131 := ⟨okD_of ck131 (fun _ => rfl) (fun _ => rfl) rfl, by decide +kernel, rfl, ⟨by decide +kernel, by decide +kernel⟩, by decide, q177, Or.inl rfl, Or.inr (Or.inl ⟨rfl, rfl⟩)⟩
theorem okM131 : OKM 131 := Or.inl ⟨q782, rfl, rfl⟩
theorem okN132 : OKN 132 := ⟨okD_of ck132 (fun _ => rfl) (fun _ => rfl) rfl, by decide +kernel, rfl, ⟨by decide +kernel, by decide +kernel⟩, by decide, q177, Or.inl rfl, Or.inr (Or.inr (Or.inr (Or.inr ⟨rfl, rfl⟩)))⟩
theorem okM132 : OKM 132 := Or.inl ⟨q791, rfl, rfl⟩
theorem okN133 : OKN 133 := ⟨okD_of ck133 (fun _ => rfl) (fun _ => rfl) rfl, by decide +kernel, rfl, ⟨by decide +kernel, by decide +kernel⟩, by decide, q177, Or.inl rfl, Or.inr (Or.inl ⟨rfl, rfl⟩)⟩
theorem okM133 : OKM 133 := Or.inl ⟨q823, rfl, rfl⟩
theorem okN134 : OKN 134 := ⟨okD_of ck134 (fun _ => rfl) (fun _ => rfl) rfl, by decide +kernel, rfl, ⟨by decide +kernel, by decide +kernel⟩, by decide, q177, Or.inl rfl, Or.inr (Or.inl ⟨rfl, rfl⟩)⟩
theorem okM134 : OKM 134 := Or.inl ⟨q827, rfl, rfl⟩
theorem okN135 : OKN 135 := ⟨okD_of ck135 (fun _ => rfl) (fun _ => rfl) rfl, by decide +kernel, rfl, ⟨by decide +kernel, by decide +kernel⟩, by decide, q177, Or.inl rfl, Or.inr (Or.inl ⟨rfl, rfl⟩)⟩
theorem okM135 : OKM 135 := Or.inl ⟨q831, rfl, rfl⟩
theorem okN136 : OKN 136 := ⟨okD_of ck136 (fun _ => rfl) (fun _ => rfl) rfl, by decide +kernel, rfl, ⟨by decide +kernel, by decide +kernel⟩, by decide, q177, Or.inl rfl, Or.inr (Or.inl ⟨rfl, rfl⟩)⟩
theorem okM136 : OKM 136 := Or.inl ⟨q835, rfl, rfl⟩
theorem okN137 : OKN 137 := ⟨okD_of ck137 (fun _ => rfl) (fun _ => rfl) rfl, by decide +kernel, rfl, ⟨by decide +kernel, by decide +kernel⟩, by decide, q177, Or.inl rfl, Or.inr (Or.inl ⟨rfl, rfl⟩)⟩
theorem okM137 : OKM 137 := Or.inl ⟨q843, rfl, rfl⟩
theorem okN138 : OKN 138 := ⟨okD_of ck138 (fun _ => rfl) (fun _ => rfl) rfl, by decide +kernel, rfl, ⟨by decide +kernel, by decide +kernel⟩, by decide, q177, Or.inl rfl, Or.inr (Or.inl ⟨rfl, rfl⟩)⟩
theorem okM138 : OKM 138 := Or.inl ⟨q863, rfl, rfl⟩
theorem okN139 : OKN 139 := ⟨okD_of ck139 (fun _ => rfl) (fun _ => rfl) rfl, by decide +kernel, rfl, ⟨by decide +kernel, by decide +kernel⟩, by decide, q177, Or.inl rfl, Or.inr (Or.inr (Or.inr (Or.inr ⟨rfl, rfl⟩)))⟩
theorem okM139 : OKM 139 := Or.inl ⟨q867, rfl, rfl⟩
theorem okN140 : OKN 140 := ⟨okD_of ck140 (fun _ => rfl) (fun _ => rfl) rfl, by decide +kernel, rfl, ⟨by decide +kernel, by decide +kernel⟩, by decide, q177, Or.inl rfl, Or.inr (Or.inr (Or.inr (Or.inr ⟨rfl, rfl⟩)))⟩
theorem okM140 : OKM 140 := Or.inl ⟨q872, rfl, rfl⟩
theorem okN141 : OKN 141 := ⟨okD_of ck141 (fun _ => rfl) (fun _ => rfl) rfl, by decide +kernel, rfl, ⟨by decide +kernel, by decide +kernel⟩, by decide, q177, Or.inl rfl, Or.inr (Or.inl ⟨rfl, rfl⟩)⟩
theorem okM141 : OKM 141 := Or.inl ⟨q990, rfl, rfl⟩
theorem okN142 : OKN 142 := ⟨okD_of ck142 (fun _ => rfl) (fun _ => rfl) rfl, by decide +kernel, rfl, ⟨by decide +kernel, by decide +kernel⟩, by decide, q177, Or.inl rfl, Or.inr (Or.inl ⟨rfl, rfl⟩)⟩
theorem okM142 : OKM 142 := Or.inl ⟨q1028, rfl, rfl⟩
theorem okN143 : OKN 143 := ⟨okD_of ck143 (fun _ => rfl) (fun _ => rfl) rfl, by decide +kernel, rfl, ⟨by decide +kernel, by decide +kernel⟩, by decide, q177, Or.inl rfl, Or.inr (Or.inl ⟨rfl, rfl⟩)⟩
theorem okM143 : OKM 143 := Or.inl ⟨q1032, rfl, rfl⟩
theorem okN144 : OKN 144 := ⟨okD_of ck144 (fun _ => rfl) (fun _ => rfl) rfl, by decide +kernel, rfl, ⟨by decide +kernel, by decide +kernel⟩, by decide, q178, Or.inr ⟨rfl, rfl⟩, Or.inl ⟨rfl, rfl⟩⟩
theorem okM144 : OKM 144 := Or.inl ⟨q456, rfl, rfl⟩
theorem okN145 : OKN 145 := ⟨okD_of ck145 (fun _ => rfl) (fun _ => rfl) rfl, by decide +kernel, rfl, ⟨by decide +kernel, by decide +kernel⟩, by decide, q178, Or.inl rfl, Or.inl ⟨rfl, rfl⟩⟩
theorem okM145 : OKM 145 := Or.inl ⟨q1111, rfl, rfl⟩
theorem okN146 : OKN 146 := ⟨okD_of ck146 (fun _ => rfl) (fun _ => rfl) rfl, by decide +kernel, rfl, ⟨by decide +kernel, by decide +kernel⟩, by decide, q178, Or.inl rfl, Or.inr (Or.inl ⟨rfl, rfl⟩)⟩
theorem okM146 : OKM 146 := Or.inl ⟨q1120, rfl, rfl⟩
theorem okN147 : OKN 147 := ⟨okD_of ck147 (fun _ => rfl) (fun _ => rfl) rfl, by decide +kernel, rfl, ⟨by decide +kernel, by decide +kernel⟩, by decide, q178, Or.inl rfl, Or.inr (Or.inl ⟨rfl, rfl⟩)⟩
theorem okM147 : OKM 147 := Or.inl ⟨q1182, rfl, rfl⟩
theorem okN148 : OKN 148 := ⟨okD_of ck148 (fun _ => rfl) (fun _ => rfl) rfl, by decide +kernel, rfl, ⟨by decide +kernel, by decide +kernel⟩, by decide, q178, Or.inl rfl, Or.inr (Or.inl ⟨rfl, rfl⟩)⟩
theorem okM148 : OKM 148 := Or.inl ⟨q1186, rfl, rfl⟩
theorem okN149 : OKN 149 := ⟨okD_of ck149 (fun _ => rfl) (fun _ => rfl) rfl, by decide +kernel, rfl, ⟨by decide +kernel, by decide +kernel⟩, by decide, q178, Or.inl rfl, Or.inr (Or.inl ⟨rfl, rfl⟩)⟩
theorem okM149 : OKM 149 := Or.inl ⟨q1189, rfl, rfl⟩
theorem okN150 : OKN 150 := ⟨okD_of ck150 (fun _ => rfl) (fun _ => rfl) rfl, by decide +kernel, rfl, ⟨by decide +kernel, by decide +kernel⟩, by decide, q178, Or.inl rfl, Or.inr (Or.inl ⟨rfl, rfl⟩)⟩
theorem okM150 : OKM 150 := Or.inl ⟨q1193, rfl, rfl⟩
theorem okN151 : OKN 151 := ⟨okD_of ck151 (fun _ => rfl) (fun _ => rfl) rfl, by decide +kernel, rfl, ⟨by decide +kernel, by decide +kernel⟩, by decide, q178, Or.inl rfl, Or.inr (Or.inl ⟨rfl, rfl⟩)⟩
theorem okM151 : OKM 151 := Or.inl ⟨q1201, rfl, rfl⟩
theorem okN152 : OKN 152 := ⟨okD_of ck152 (fun _ => rfl) (fun _ => rfl) rfl, by decide +kernel, rfl, ⟨by decide +kernel, by decide +kernel⟩, by decide, q178, Or.inl rfl, Or.inr (Or.inr (Or.inr (Or.inr ⟨rfl, rfl⟩)))⟩
theorem okM152 : OKM 152 := Or.inl ⟨q1462, rfl, rfl⟩
theorem okN153 : OKN 153 := ⟨okD_of ck153 (fun _ => rfl) (fun _ => rfl) rfl, by decide +kernel, rfl, ⟨by decide +kernel, by decide +kernel⟩, by decide, q179, Or.inr ⟨rfl, rfl⟩, Or.inl ⟨rfl, rfl⟩⟩
theorem okM153 : OKM 153 := Or.inl ⟨q483, rfl, rfl⟩
theorem okN154 : OKN 154 := ⟨okD_of ck154 (fun _ => rfl) (fun _ => rfl) rfl, by decide +kernel, rfl, ⟨by decide +kernel, by decide +kernel⟩, by decide, q179, Or.inl rfl, Or.inl ⟨rfl, rfl⟩⟩
theorem okM154 : OKM 154 := Or.inl ⟨q1137, rfl, rfl⟩
theorem okN155 : OKN 155 := ⟨okD_of ck155 (fun _ => rfl) (fun _ => rfl) rfl, by decide +kernel, rfl, ⟨by decide +kernel, by decide +kernel⟩, by decide, q179, Or.inl rfl, Or.inl ⟨rfl, rfl⟩⟩
theorem okM155 : OKM 155 := Or.inl ⟨q1149, rfl, rfl⟩
theorem okN156 : OKN 156 := ⟨okD_of ck156 (fun _ => rfl) (fun _ => rfl) rfl, by decide +kernel, rfl, ⟨by decide +kernel, by decide +kernel⟩, by decide, q179, Or.inl rfl, Or.inl ⟨rfl, rfl⟩⟩
theorem okM156 : OKM 156 := Or.inl ⟨q1154, rfl, rfl⟩
theorem okN157 : OKN 157 := ⟨okD_of ck157 (fun _ => rfl) (fun _ => rfl) rfl, by decide +kernel, rfl, ⟨by decide +kernel, by decide +kernel⟩, by decide, q179, Or.inl rfl, Or.inl ⟨rfl, rfl⟩⟩
theorem okM157 : OKM 157 := Or.inl ⟨q1159, rfl, rfl⟩
theorem okN158 : OKN 158 := ⟨okD_of ck158 (fun _ => rfl) (fun _ => rfl) rfl, by decide +kernel, rfl, ⟨by decide +kernel, by decide +kernel⟩, by decide, q179, Or.inl rfl, Or.inr (Or.inl ⟨rfl, rfl⟩)⟩
theorem okM158 : OKM 158 := Or.inl ⟨q1163, rfl, rfl⟩
theorem okN159 : OKN 159 := ⟨okD_of ck159 (fun _ => rfl) (fun _ => rfl) rfl, by decide +kernel, rfl, ⟨by decide +kernel, by decide +kernel⟩, by decide, q179, Or.inl rfl, Or.inl ⟨rfl, rfl⟩⟩
theorem okM159 : OKM 159 := Or.inl ⟨q1167, rfl, rfl⟩
theorem okN160 : OKN 160 := ⟨okD_of ck160 (fun _ => rfl) (fun _ => rfl) rfl, by decide +kernel, rfl, ⟨by decide +kernel, by decide +kernel⟩, by decide, q179, Or.inl rfl, Or.inl ⟨rfl, rfl⟩⟩
theorem okM160 : OKM 160 := Or.inl ⟨q1173, rfl, rfl⟩
theorem okN161 : OKN 161 := ⟨okD_of ck161 (fun _ => rfl) (fun _ => rfl) rfl, by decide +kernel, rfl, ⟨by decide +kernel, by decide +kernel⟩, by decide, q179, Or.inl rfl, Or.inr (Or.inl ⟨rfl, rfl⟩)⟩
theorem okM161 : OKM 161 := Or.inl ⟨q1177, rfl, rfl⟩
theorem okN162 : OKN 162 := ⟨okD_of ck162 (fun _ => rfl) (fun _ => rfl) rfl, by decide +kernel, rfl, ⟨by decide +kernel, by decide +kernel⟩, by decide, q179, Or.inl rfl, Or.inl ⟨rfl, rfl⟩⟩
theorem okM162 : OKM 162 := Or.inl ⟨q1197, rfl, rfl⟩
theorem okN163 : OKN 163 := ⟨okD_of ck163 (fun _ => rfl) (fun _ => rfl) rfl, by decide +kernel, rfl, ⟨by decide +kernel, by decide +kernel⟩, by decide, q179, Or.inl rfl, Or.inr (Or.inl ⟨rfl, rfl⟩)⟩
theorem okM163 : OKM 163 := Or.inl ⟨q1207, rfl, rfl⟩
theorem okN164 : OKN 164 := ⟨okD_of ck164 (fun _ => rfl) (fun _ => rfl) rfl, by decide +kernel, rfl, ⟨by decide +kernel, by decide +kernel⟩, by decide, q179, Or.inl rfl, Or.inl ⟨rfl, rfl⟩⟩
theorem okM164 : OKM 164 := Or.inl ⟨q1212, rfl, rfl⟩
theorem okN165 : OKN 165 := ⟨okD_of ck165 (fun _ => rfl) (fun _ => rfl) rfl, by decide +kernel, rfl, ⟨by decide +kernel, by decide +kernel⟩, by decide, q179, Or.inl rfl, Or.inl ⟨rfl, rfl⟩⟩
theorem okM165 : OKM 165 := Or.inl ⟨q1216, rfl, rfl⟩
theorem okN166 : OKN 166 := ⟨okD_of ck166 (fun _ => rfl) (fun _ => rfl) rfl, by decide +kernel, rfl, ⟨by decide +kernel, by decide +kernel⟩, by decide, q179, Or.inl rfl, Or.inl ⟨rfl, rfl⟩⟩
theorem okM166 : OKM 166 := Or.inl ⟨q1220, rfl, rfl⟩
theorem okN167 : OKN 167 := ⟨okD_of ck167 (fun _ => rfl) (fun _ => rfl) rfl, by decide +kernel, rfl, ⟨by decide +kernel, by decide +kernel⟩, by decide, q179, Or.inl rfl, Or.inr (Or.inl ⟨rfl, rfl⟩)⟩
theorem okM167 : OKM 167 := Or.inl ⟨q1224, rfl, rfl⟩
theorem okN168 : OKN 168 := ⟨okD_of ck168 (fun _ => rfl) (fun _ => rfl) rfl, by decide +kernel, rfl, ⟨by decide +kernel, by decide +kernel⟩, by decide, q179, Or.inl rfl, Or.inl ⟨rfl, rfl⟩⟩
theorem okM168 : OKM 168 := Or.inl ⟨q1228, rfl, rfl⟩
theorem okN169 : OKN 169 := ⟨okD_of ck169 (fun _ => rfl) (fun _ => rfl) rfl, by decide +kernel, rfl, ⟨by decide +kernel, by decide +kernel⟩, by decide, q179, Or.inl rfl, Or.inl ⟨rfl, rfl⟩⟩
theorem okM169 : OKM 169 := Or.inl ⟨q1232, rfl, rfl⟩
theorem okN170 : OKN 170 := ⟨okD_of ck170 (fun _ => rfl) (fun _ => rfl) rfl, by decide +kernel, rfl, ⟨by decide +kernel, by decide +kernel⟩, by decide, q179, Or.inl rfl, Or.inr (Or.inl ⟨rfl, rfl⟩)⟩
theorem okM170 : OKM 170 := Or.inl ⟨q1236, rfl, rfl⟩
theorem okN171 : OKN 171 := ⟨okD_of ck171 (fun _ => rfl) (fun _ => rfl) rfl, by decide +kernel, rfl, ⟨by decide +kernel, by decide +kernel⟩, by decide, q179, Or.inl rfl, Or.inl ⟨rfl, rfl⟩⟩
theorem okM171 : OKM 171 := Or.inl ⟨q1240, rfl, rfl⟩
theorem okN172 : OKN 172 := ⟨okD_of ck172 (fun _ => rfl) (fun _ => rfl) rfl, by decide +kernel, rfl, ⟨by decide +kernel, by decide +kernel⟩, by decide, q179, Or.inl rfl, Or.inl ⟨rfl, rfl⟩⟩
theorem okM172 : OKM 172 := Or.inl ⟨q1244, rfl, rfl⟩
theorem okN173 : OKN 173 := ⟨okD_of ck173 (fun _ => rfl) (fun _ => rfl) rfl, by decide +kernel, rfl, ⟨by decide +kernel, by decide +kernel⟩, by decide, q179, Or.inl rfl, Or.inl ⟨rfl, rfl⟩⟩
theorem okM173 : OKM 173 := Or.inl ⟨q1248, rfl, rfl⟩
theorem okN174 : OKN 174 := ⟨okD_of ck174 (fun _ => rfl) (fun _ => rfl) rfl, by decide +kernel, rfl, ⟨by decide +kernel, by decide +kernel⟩, by decide, q179, Or.inl rfl, Or.inl ⟨rfl, rfl⟩⟩
theorem okM174 : OKM 174 := Or.inl ⟨q1252, rfl, rfl⟩
theorem okN175 : OKN 175 := ⟨okD_of ck175 (fun _ => rfl) (fun _ => rfl) rfl, by decide +kernel, rfl, ⟨by decide +kernel, by decide +kernel⟩, by decide, q179, Or.inl rfl, Or.inl ⟨rfl, rfl⟩⟩
theorem okM175 : OKM 175 := Or.inl ⟨q1256, rfl, rfl⟩
theorem okN176 : OKN 176 := ⟨okD_of ck176 (fun _ => rfl) (fun _ => rfl) rfl, by decide +kernel, rfl, ⟨by decide +kernel, by decide +kernel⟩, by decide, q180, Or.inr ⟨rfl, rfl⟩, Or.inl ⟨rfl, rfl⟩⟩
theorem okM176 : OKM 176 := Or.inl ⟨q593, rfl, rfl⟩
theorem okN177 : OKN 177 := ⟨okD_of ck177 (fun _ => rfl) (fun _ => rfl) rfl, by decide +kernel, rfl, ⟨by decide +kernel, by decide +kernel⟩, by decide, q180, Or.inl rfl, Or.inl ⟨rfl, rfl⟩⟩
theorem okM177 : OKM 177 := Or.inl ⟨q1288, rfl, rfl⟩
theorem okN178 : OKN 178 := ⟨okD_of ck178 (fun _ => rfl) (fun _ => rfl) rfl, by decide +kernel, rfl, ⟨by decide +kernel, by decide +kernel⟩, by decide, q180, Or.inl rfl, Or.inl ⟨rfl, rfl⟩⟩
theorem okM178 : OKM 178 := Or.inl ⟨q1457, rfl, rfl⟩
theorem okN179 : OKN 179 := ⟨okD_of ck179 (fun _ => rfl) (fun _ => rfl) rfl, by decide +kernel, rfl, ⟨by decide +kernel, by decide +kernel⟩, by decide, q180, Or.inl rfl, Or.inr (Or.inl ⟨rfl, rfl⟩)⟩
theorem okM179 : OKM 179 := Or.inl ⟨q1466, rfl, rfl⟩
theorem okN180 : OKN 180 := ⟨okD_of ck180 (fun _ => rfl) (fun _ => rfl) rfl, by decide +kernel, rfl, ⟨by decide +kernel, by decide +kernel⟩, by decide, q180, Or.inl rfl, Or.inl ⟨rfl, rfl⟩⟩
theorem okM180 : OKM 180 := Or.inl ⟨q1470, rfl, rfl⟩
theorem okN181 : OKN 181 := ⟨okD_of ck181 (fun _ => rfl) (fun _ => rfl) rfl, by decide +kernel, rfl, ⟨by decide +kernel, by decide +kernel⟩, by decide, q180, Or.inl rfl, Or.inr (Or.inr (Or.inl ⟨rfl, rfl⟩))⟩
theorem okM181 : OKM 181 := Or.inl ⟨q1481, rfl, rfl⟩
theorem okN182 : OKN 182 := ⟨okD_of ck182 (fun _ => rfl) (fun _ => rfl) rfl, by decide +kernel, rfl, ⟨by decide +kernel, by decide +kernel⟩, by decide, q181, Or.inr ⟨rfl, rfl⟩, Or.inl ⟨rfl, rfl⟩⟩
theorem okM182 : OKM 182 := Or.inl ⟨q1496, rfl, rfl⟩
theorem okN183 : OKN 183 := ⟨okD_of ck183 (fun _ => rfl) (fun _ => rfl) rfl, by decide +kernel, rfl, ⟨by decide +kernel, by decide +kernel⟩, by decide, q181, Or.inl rfl, Or.inr (Or.inl ⟨rfl, rfl⟩)⟩
theorem okM183 : OKM 183 := Or.inl ⟨q1779, rfl, rfl⟩
theorem okN184 : OKN 184 := ⟨okD_of ck184 (fun _ => rfl) (fun _ => rfl) rfl, by decide +kernel, rfl, ⟨by decide +kernel, by decide +kernel⟩, by decide, q181, Or.inl rfl, Or.inr (Or.inl ⟨rfl, rfl⟩)⟩
theorem okM184 : OKM 184 := Or.inl ⟨q1783, rfl, rfl⟩
theorem okN185 : OKN 185 := ⟨okD_of ck185 (fun _ => rfl) (fun _ => rfl) rfl, by decide +kernel, rfl, ⟨by decide +kernel, by decide +kernel⟩, by decide, q181, Or.inl rfl, Or.inl ⟨rfl, rfl⟩⟩
theorem okM185 : OKM 185 := Or.inl ⟨q1787, rfl, rfl⟩
theorem okN186 : OKN 186 := ⟨okD_of ck186 (fun _ => rfl) (fun _ => rfl) rfl, by decide +kernel, rfl, ⟨by decide +kernel, by decide +kernel⟩, by decide, q181, Or.inl rfl, Or.inl ⟨rfl, rfl⟩⟩
theorem okM186 : OKM 186 := Or.inl ⟨q1791, rfl, rfl⟩
theorem okN187 : OKN 187 := ⟨okD_of ck187 (fun _ => rfl) (fun _ => rfl) rfl, by decide +kernel, rfl, ⟨by decide +kernel, by decide +kernel⟩, by decide, q181, Or.inl rfl, Or.inr (Or.inl ⟨rfl, rfl⟩)⟩
theorem okM187 : OKM 187 := Or.inl ⟨q1795, rfl, rfl⟩
theorem okN188 : OKN 188 := ⟨okD_of ck188 (fun _ => rfl) (fun _ => rfl) rfl, by decide +kernel, rfl, ⟨by decide +kernel, by decide +kernel⟩, by decide, q181, Or.inl rfl, Or.inr (Or.inl ⟨rfl, rfl⟩)⟩
theorem okM188 : OKM 188 := Or.inl ⟨q1799, rfl, rfl⟩
theorem okN189 : OKN 189 := ⟨okD_of ck189 (fun _ => rfl) (fun _ => rfl) rfl, by decide +kernel, rfl, ⟨by decide +kernel, by decide +kernel⟩, by decide, q181, Or.inl rfl, Or.inl ⟨rfl, rfl⟩⟩
theorem okM189 : OKM 189 := Or.inl ⟨q1803, rfl, rfl⟩
theorem okN190 : OKN 190 := ⟨okD_of ck190 (fun _ => rfl) (fun _ => rfl) rfl, by decide +kernel, rfl, ⟨by decide +kernel, by decide +kernel⟩, by decide, q181, Or.inl rfl, Or.inr (Or.inr (Or.inr (Or.inr ⟨rfl, rfl⟩)))⟩
theorem okM190 : OKM 190 := Or.inl ⟨q1806, rfl, rfl⟩
theorem okN191 : OKN 191 := ⟨okD_of ck191 (fun _ => rfl) (fun _ => rfl) rfl, by decide +kernel, rfl, ⟨by decide +kernel, by decide +kernel⟩, by decide, q181, Or.inl rfl, Or.inr (Or.inr (Or.inr (Or.inr ⟨rfl, rfl⟩)))⟩
theorem okM191 : OKM 191 := Or.inl ⟨q1809, rfl, rfl⟩
theorem okN192 : OKN 192 := ⟨okD_of ck192 (fun _ => rfl) (fun _ => rfl) rfl, by decide +kernel, rfl, ⟨by decide +kernel, by decide +kernel⟩, by decide, q181, Or.inl rfl, Or.inr (Or.inr (Or.inr (Or.inr ⟨rfl, rfl⟩)))⟩
theorem okM192 : OKM 192 := Or.inl ⟨q1812, rfl, rfl⟩
theorem okN193 : OKN 193 := ⟨okD_of ck193 (fun _ => rfl) (fun _ => rfl) rfl, by decide +kernel, rfl, ⟨by decide +kernel, by decide +kernel⟩, by decide, q181, Or.inl rfl, Or.inr (Or.inl ⟨rfl, rfl⟩)⟩
theorem okM193 : OKM 193 := Or.inl ⟨q1816, rfl, rfl⟩
theorem okN194 : OKN 194 := ⟨okD_of ck194 (fun _ => rfl) (fun _ => rfl) rfl, by decide +kernel, rfl, ⟨by decide +kernel, by decide +kernel⟩, by decide, q181, Or.inl rfl, Or.inr (Or.inl ⟨rfl, rfl⟩)⟩
theorem okM194 : OKM 194 := Or.inl ⟨q1822, rfl, rfl⟩
theorem okN195 : OKN 195 := ⟨okD_of ck195 (fun _ => rfl) (fun _ => rfl) rfl, by decide +kernel, rfl, ⟨by decide +kernel, by decide +kernel⟩, by decide, q181, Or.inl rfl, Or.inr (Or.inl ⟨rfl, rfl⟩)⟩
theorem okM195 : OKM 195 := Or.inl ⟨q1826, rfl, rfl⟩
theorem okN196 : OKN 196 := ⟨okD_of ck196 (fun _ => rfl) (fun _ => rfl) rfl, by decide +kernel, rfl, ⟨by decide +kernel, by decide +kernel⟩, by decide, q181, Or.inl rfl, Or.inr (Or.inr (Or.inl ⟨rfl, rfl⟩))⟩
theorem okM196 : OKM 196 := Or.inl ⟨q1830, rfl, rfl⟩
theorem okN197 : OKN 197 := ⟨okD_of ck197 (fun _ => rfl) (fun _ => rfl) rfl, by decide +kernel, rfl, ⟨by decide +kernel, by decide +kernel⟩, by decide, q181, Or.inl rfl, Or.inr (Or.inl ⟨rfl, rfl⟩)⟩
theorem okM197 : OKM 197 := Or.inl ⟨q1833, rfl, rfl⟩
theorem okN198 : OKN 198 := ⟨okD_of ck198 (fun _ => rfl) (fun _ => rfl) rfl, by decide +kernel, rfl, ⟨by decide +kernel, by decide +kernel⟩, by decide, q181, Or.inl rfl, Or.inr (Or.inl ⟨rfl, rfl⟩)⟩
theorem okM198 : OKM 198 := Or.inl ⟨q1838, rfl, rfl⟩
theorem okN199 : OKN 199 := ⟨okD_of ck199 (fun _ => rfl) (fun _ => rfl) rfl, by decide +kernel, rfl, ⟨by decide +kernel, by decide +kernel⟩, by decide, q181, Or.inl rfl, Or.inr (Or.inr (Or.inr (Or.inr ⟨rfl, rfl⟩)))⟩
theorem okM199 : OKM 199 := Or.inl ⟨q1841, rfl, rfl⟩
theorem okN200 : OKN 200 := ⟨okD_of ck200 (fun _ => rfl) (fun _ => rfl) rfl, by decide +kernel, rfl, ⟨by decide +kernel, by decide +kernel⟩, by decide, q181, Or.inl rfl, Or.inl ⟨rfl, rfl⟩⟩
theorem okM200 : OKM 200 := Or.inl ⟨q1845, rfl, rfl⟩
theorem okN201 : OKN 201 := ⟨okD_of ck201 (fun _ => rfl) (fun _ => rfl) rfl, by decide +kernel, rfl, ⟨by decide +kernel, by decide +kernel⟩, by decide, q181, Or.inl rfl, Or.inl ⟨rfl, rfl⟩⟩
theorem okM201 : OKM 201 := Or.inl ⟨q1849, rfl, rfl⟩
theorem okN202 : OKN 202 := ⟨okD_of ck202 (fun _ => rfl) (fun _ => rfl) rfl, by decide +kernel, rfl, ⟨by decide +kernel, by decide +kernel⟩, by decide, q181, Or.inl rfl, Or.inl ⟨rfl, rfl⟩⟩
theorem okM202 : OKM 202 := Or.inl ⟨q1853, rfl, rfl⟩
theorem okN203 : OKN 203 := ⟨okD_of ck203 (fun _ => rfl) (fun _ => rfl) rfl, by decide +kernel, rfl, ⟨by decide +kernel, by decide +kernel⟩, by decide, q181, Or.inl rfl, Or.inl ⟨rfl, rfl⟩⟩
theorem okM203 : OKM 203 := Or.inl ⟨q1857, rfl, rfl⟩
theorem okN204 : OKN 204 := ⟨okD_of ck204 (fun _ => rfl) (fun _ => rfl) rfl, by decide +kernel, rfl, ⟨by decide +kernel, by decide +kernel⟩, by decide, q181, Or.inl rfl, Or.inl ⟨rfl, rfl⟩⟩
theorem okM204 : OKM 204 := Or.inl ⟨q1861, rfl, rfl⟩
theorem okN205 : OKN 205 := ⟨okD_of ck205 (fun _ => rfl) (fun _ => rfl) rfl, by decide +kernel, rfl, ⟨by decide +kernel, by decide +kernel⟩, by decide, q181, Or.inl rfl, Or.inr (Or.inr (Or.inr (Or.inr ⟨rfl, rfl⟩)))⟩
theorem okM205 : OKM 205 := Or.inl ⟨q1865, rfl, rfl⟩
theorem okN206 : OKN 206 := ⟨okD_of ck206 (fun _ => rfl) (fun _ => rfl) rfl, by decide +kernel, rfl, ⟨by decide +kernel, by decide +kernel⟩, by decide, q181, Or.inl rfl, Or.inl ⟨rfl, rfl⟩⟩
theorem okM206 : OKM 206 := Or.inl ⟨q1869, rfl, rfl⟩
theorem okN207 : OKN 207 := ⟨okD_of ck207 (fun _ => rfl) (fun _ => rfl) rfl, by decide +kernel, rfl, ⟨by decide +kernel, by decide +kernel⟩, by decide, q181, Or.inl rfl, Or.inl ⟨rfl, rfl⟩⟩
theorem okM207 : OKM 207 := Or.inl ⟨q1873, rfl, rfl⟩
theorem okN208 : OKN 208 := ⟨okD_of ck208 (fun _ => rfl) (fun _ => rfl) rfl, by decide +kernel, rfl, ⟨by decide +kernel, by decide +kernel⟩, by decide, q181, Or.inl rfl, Or.inl ⟨rfl, rfl⟩⟩
theorem okM208 : OKM 208 := Or.inl ⟨q1877, rfl, rfl⟩
theorem okN209 : OKN 209 := ⟨okD_of ck209 (fun _ => rfl) (fun _ => rfl) rfl, by decide +kernel, rfl, ⟨by decide +kernel, by decide +kernel⟩, by decide, q181, Or.inl rfl, Or.inl ⟨rfl, rfl⟩⟩
theorem okM209 : OKM 209 := Or.inl ⟨q1881, rfl, rfl⟩
theorem okN210 : OKN 210 := ⟨okD_of ck210 (fun _ => rfl) (fun _ => rfl) rfl, by decide +kernel, rfl, ⟨by decide +kernel, by decide +kernel⟩, by decide, q181, Or.inl rfl, Or.inr (Or.inl ⟨rfl, rfl⟩)⟩
theorem okM210 : OKM 210 := Or.inl ⟨q1885, rfl, rfl⟩
theorem okN211 : OKN 211 := ⟨okD_of ck211 (fun _ => rfl) (fun _ => rfl) rfl, by decide +kernel, rfl, ⟨by decide +kernel, by decide +kernel⟩, by decide, q181, Or.inl rfl, Or.inl ⟨rfl, rfl⟩⟩
theorem okM211 : OKM 211 := Or.inl ⟨q1889, rfl, rfl⟩
theorem okN212 : OKN 212 := ⟨okD_of ck212 (fun _ => rfl) (fun _ => rfl) rfl, by decide +kernel, rfl, ⟨by decide +kernel, by decide +kernel⟩, by decide, q181, Or.inl rfl, Or.inl ⟨rfl, rfl⟩⟩
theorem okM212 : OKM 212 := Or.inl ⟨q1893, rfl, rfl⟩
theorem okN213 : OKN 213 := ⟨okD_of ck213 (fun _ => rfl) (fun _ => rfl) rfl, by decide +kernel, rfl, ⟨by decide +kernel, by decide +kernel⟩, by decide, q181, Or.inl rfl, Or.inl ⟨rfl, rfl⟩⟩
theorem okM213 : OKM 213 := Or.inl ⟨q1897, rfl, rfl⟩
theorem okN214 : OKN 214 := ⟨okD_of ck214 (fun _ => rfl) (fun _ => rfl) rfl, by decide +kernel, rfl, ⟨by decide +kernel, by decide +kernel⟩, by decide, q181, Or.inl rfl, Or.inr (Or.inr (Or.inr (Or.inr ⟨rfl, rfl⟩)))⟩
theorem okM214 : OKM 214 := Or.inl ⟨q1900, rfl, rfl⟩
theorem okN215 : OKN 215 := ⟨okD_of ck215 (fun _ => rfl) (fun _ => rfl) rfl, by decide +kernel, rfl, ⟨by decide +kernel, by decide +kernel⟩, by decide, q181, Or.inl rfl, Or.inl ⟨rfl, rfl⟩⟩
theorem okM215 : OKM 215 := Or.inl ⟨q1904, rfl, rfl⟩
theorem okN216 : OKN 216 := ⟨okD_of ck216 (fun _ => rfl) (fun _ => rfl) rfl, by decide +kernel, rfl, ⟨by decide +kernel, by decide +kernel⟩, by decide, q181, Or.inl rfl, Or.inl ⟨rfl, rfl⟩⟩
theorem okM216 : OKM 216 := Or.inl ⟨q1908, rfl, rfl⟩
theorem okN217 : OKN 217 := ⟨okD_of ck217 (fun _ => rfl) (fun _ => rfl) rfl, by decide +kernel, rfl, ⟨by decide +kernel, by decide +kernel⟩, by decide, q181, Or.inl rfl, Or.inr (Or.inl ⟨rfl, rfl⟩)⟩
theorem okM217 : OKM 217 := Or.inl ⟨q1911, rfl, rfl⟩
theorem okN218 : OKN 218 := ⟨okD_of ck218 (fun _ => rfl) (fun _ => rfl) rfl, by decide +kernel, rfl, ⟨by decide +kernel, by decide +kernel⟩, by decide, q181, Or.inl rfl, Or.inl ⟨rfl, rfl⟩⟩
theorem okM218 : OKM 218 := Or.inl ⟨q1915, rfl, rfl⟩
theorem okN219 : OKN 219 := ⟨okD_of ck219 (fun _ => rfl) (fun _ => rfl) rfl, by decide +kernel, rfl, ⟨by decide +kernel, by decide +kernel⟩, by decide, q181, Or.inl rfl, Or.inl ⟨rfl, rfl⟩⟩
theorem okM219 : OKM 219 := Or.inl ⟨q1919, rfl, rfl⟩
theorem okN220 : OKN 220 := ⟨okD_of ck220 (fun _ => rfl) (fun _ => rfl) rfl, by decide +kernel, rfl, ⟨by decide +kernel, by decide +kernel⟩, by decide, q181, Or.inl rfl, Or.inl ⟨rfl, rfl⟩⟩
theorem okM220 : OKM 220 := Or.inl ⟨q1923, rfl, rfl⟩
theorem okN221 : OKN 221 := ⟨okD_of ck221 (fun _ => rfl) (fun _ => rfl) rfl, by decide +kernel, rfl, ⟨by decide +kernel, by decide +kernel⟩, by decide, q181, Or.inl rfl, Or.inl ⟨rfl, rfl⟩⟩
theorem okM221 : OKM 221 := Or.inl ⟨q1927, rfl, rfl⟩
theorem okN222 : OKN 222 := ⟨okD_of ck222 (fun _ => rfl) (fun _ => rfl) rfl, by decide +kernel, rfl, ⟨by decide +kernel, by decide +kernel⟩, by decide, q181, Or.inl rfl, Or.inl ⟨rfl, rfl⟩⟩
theorem okM222 : OKM 222 := Or.inl ⟨q1931, rfl, rfl⟩
theorem okN223 : OKN 223 := ⟨okD_of ck223 (fun _ => rfl) (fun _ => rfl) rfl, by decide +kernel, rfl, ⟨by decide +kernel, by decide +kernel⟩, by decide, q181, Or.inl rfl, Or.inr (Or.inl ⟨rfl, rfl⟩)⟩
theorem okM223 : OKM 223 := Or.inl ⟨q1935, rfl, rfl⟩
theorem okN224 : OKN 224 := ⟨okD_of ck224 (fun _ => rfl) (fun _ => rfl) rfl, by decide +kernel, rfl, ⟨by decide +kernel, by decide +kernel⟩, by decide, q181, Or.inl rfl, Or.inr (Or.inr (Or.inr (Or.inr ⟨rfl, rfl⟩)))⟩
theorem okM224 : OKM 224 := Or.inl ⟨q1939, rfl, rfl⟩
theorem okN225 : OKN 225 := ⟨okD_of ck225 (fun _ => rfl) (fun _ => rfl) rfl, by decide +kernel, rfl, ⟨by decide +kernel, by decide +kernel⟩, by decide, q181, Or.inl rfl, Or.inl ⟨rfl, rfl⟩⟩
theorem okM225 : OKM 225 := Or.inl ⟨q1943, rfl, rfl⟩
theorem okN226 : OKN 226 := ⟨okD_of ck226 (fun _ => rfl) (fun _ => rfl) rfl, by decide +kernel, rfl, ⟨by decide +kernel, by decide +kernel⟩, by decide, q181, Or.inl rfl, Or.inr (Or.inl ⟨rfl, rfl⟩)⟩
theorem okM226 : OKM 226 := Or.inl ⟨q1947, rfl, rfl⟩
theorem okN227 : OKN 227 := ⟨okD_of ck227 (fun _ => rfl) (fun _ => rfl) rfl, by decide +kernel, rfl, ⟨by decide +kernel, by decide +kernel⟩, by decide, q181, Or.inl rfl, Or.inr (Or.inr (Or.inl ⟨rfl, rfl⟩))⟩
theorem okM227 : OKM 227 := Or.inl ⟨q1951, rfl, rfl⟩
theorem okN228 : OKN 228 := ⟨okD_of ck228 (fun _ => rfl) (fun _ => rfl) rfl, by decide +kernel, rfl, ⟨by decide +kernel, by decide +kernel⟩, by decide, q181, Or.inl rfl, Or.inl ⟨rfl, rfl⟩⟩
theorem okM228 : OKM 228 := Or.inl ⟨q1956, rfl, rfl⟩
theorem okN229 : OKN 229 := ⟨okD_of ck229 (fun _ => rfl) (fun _ => rfl) rfl, by decide +kernel, rfl, ⟨by decide +kernel, by decide +kernel⟩, by decide, q181, Or.inl rfl, Or.inr (Or.inl ⟨rfl, rfl⟩)⟩
theorem okM229 : OKM 229 := Or.inl ⟨q1960, rfl, rfl⟩
theorem okN230 : OKN 230 := ⟨okD_of ck230 (fun _ => rfl) (fun _ => rfl) rfl, by decide +kernel, rfl, ⟨by decide +kernel, by decide +kernel⟩, by decide, q181, Or.inl rfl, Or.inr (Or.inl ⟨rfl, rfl⟩)⟩
theorem okM230 : OKM 230 := Or.inl ⟨q1964, rfl, rfl⟩
theorem okN231 : OKN 231 := ⟨okD_of ck231 (fun _ => rfl) (fun _ => rfl) rfl, by decide +kernel, rfl, ⟨by decide +kernel, by decide +kernel⟩, by decide, q181, Or.inl rfl, Or.inr (Or.inr (Or.inr (Or.inr ⟨rfl, rfl⟩)))⟩
theorem okM231 : OKM 231 := Or.inl ⟨q1968, rfl, rfl⟩
theorem okN232 : OKN 232 := ⟨okD_of ck232 (fun _ => rfl) (fun _ => rfl) rfl, by decide +kernel, rfl, ⟨by decide +kernel, by decide +kernel⟩, by decide, q181, Or.inl rfl, Or.inr (Or.inl ⟨rfl, rfl⟩)⟩
theorem okM232 : OKM 232 := Or.inl ⟨q1972, rfl, rfl⟩
theorem okN233 : OKN 233 := ⟨okD_of ck233 (fun _ => rfl) (fun _ => rfl) rfl, by decide +kernel, rfl, ⟨by decide +kernel, by decide +kernel⟩, by decide, q181, Or.inl rfl, Or.inl ⟨rfl, rfl⟩⟩
theorem okM233 : OKM 233 := Or.inl ⟨q1976, rfl, rfl⟩
theorem okN234 : OKN 234 := ⟨okD_of ck234 (fun _ => rfl) (fun _ => rfl) rfl, by decide +kernel, rfl, ⟨by decide +kernel, by decide +kernel⟩, by decide, q181, Or.inl rfl, Or.inl ⟨rfl, rfl⟩⟩
theorem okM234 : OKM 234 := Or.inl ⟨q1980, rfl, rfl⟩
theorem okN235 : OKN 235 := ⟨okD_of ck235 (fun _ => rfl) (fun _ => rfl) rfl, by decide +kernel, rfl, ⟨by decide +kernel, by decide +kernel⟩, by decide, q181, Or.inl rfl, Or.inr (Or.inr (Or.inr (Or.inr ⟨rfl, rfl⟩)))⟩
theorem okM235 : OKM 235 := Or.inl ⟨q1984, rfl, rfl⟩
theorem okN236 : OKN 236 := ⟨okD_of ck236 (fun _ => rfl) (fun _ => rfl) rfl, by decide +kernel, rfl, ⟨by decide +kernel, by decide +kernel⟩, by decide, q181, Or.inl rfl, Or.inr (Or.inl ⟨rfl, rfl⟩)⟩
theorem okM236 : OKM 236 := Or.inl ⟨q1988, rfl, rfl⟩
theorem okN237 : OKN 237 := ⟨okD_of ck237 (fun _ => rfl) (fun _ => rfl) rfl, by decide +kernel, rfl, ⟨by decide +kernel, by decide +kernel⟩, by decide, q181, Or.inl rfl, Or.inr (Or.inl ⟨rfl, rfl⟩)⟩
theorem okM237 : OKM 237 := Or.inl ⟨q1992, rfl, rfl⟩
theorem okN238 : OKN 238 := ⟨okD_of ck238 (fun _ => rfl) (fun _ => rfl) rfl, by decide +kernel, rfl, ⟨by decide +kernel, by decide +kernel⟩, by decide, q181, Or.inl rfl, Or.inr (Or.inl ⟨rfl, rfl⟩)⟩
theorem okM238 : OKM 238 := Or.inl ⟨q1996, rfl, rfl⟩
theorem okN239 : OKN 239 := ⟨okD_of ck239 (fun _ => rfl) (fun _ => rfl) rfl, by decide +kernel, rfl, ⟨by decide +kernel, by decide +kernel⟩, by decide, q181, Or.inl rfl, Or.inr (Or.inl ⟨rfl, rfl⟩)⟩
theorem okM239 : OKM 239 := Or.inl ⟨q2000, rfl, rfl⟩
theorem okN240 : OKN 240 := ⟨okD_of ck240 (fun _ => rfl) (fun _ => rfl) rfl, by decide +kernel, rfl, ⟨by decide +kernel, by decide +kernel⟩, by decide, q181, Or.inl rfl, Or.inr (Or.inl ⟨rfl, rfl⟩)⟩
theorem okM240 : OKM 240 := Or.inl ⟨q2004, rfl, rfl⟩
theorem okN241 : OKN 241 := ⟨okD_of ck241 (fun _ => rfl) (fun _ => rfl) rfl, by decide +kernel, rfl, ⟨by decide +kernel, by decide +kernel⟩, by decide, q181, Or.inl rfl, Or.inl ⟨rfl, rfl⟩⟩
theorem okM241 : OKM 241 := Or.inl ⟨q2008, rfl, rfl⟩
theorem okN242 : OKN 242 := ⟨okD_of ck242 (fun _ => rfl) (fun _ => rfl) rfl, by decide +kernel, rfl, ⟨by decide +kernel, by decide +kernel⟩, by decide, q181, Or.inl rfl, Or.inr (Or.inl ⟨rfl, rfl⟩)⟩
theorem okM242 : OKM 242 := Or.inl ⟨q2012, rfl, rfl⟩
theorem okN243 : OKN 243 := ⟨okD_of ck243 (fun _ => rfl) (fun _ => rfl) rfl, by decide +kernel, rfl, ⟨by decide +kernel, by decide +kernel⟩, by decide, q181, Or.inl rfl, Or.inr (Or.inl ⟨rfl, rfl⟩)⟩
theorem okM243 : OKM 243 := Or.inl ⟨q2016, rfl, rfl⟩
theorem okN244 : OKN 244 := ⟨okD_of ck244 (fun _ => rfl) (fun _ => rfl) rfl, by decide +kernel, rfl, ⟨by decide +kernel, by decide +kernel⟩, by decide, q181, Or.inl rfl, Or.inl ⟨rfl, rfl⟩⟩
theorem okM244 : OKM 244 := Or.inl ⟨q2020, rfl, rfl⟩
theorem okN245 : OKN 245 := ⟨okD_of ck245 (fun _ => rfl) (fun _ => rfl) rfl, by decide +kernel, rfl, ⟨by decide +kernel, by decide +kernel⟩, by decide, q181, Or.inl rfl, Or.inl ⟨rfl, rfl⟩⟩
theorem okM245 : OKM 245 := Or.inl ⟨q2024, rfl, rfl⟩
theorem okN246 : OKN 246 := ⟨okD_of ck246 (fun _ => rfl) (fun _ => rfl) rfl, by decide +kernel, rfl, ⟨by decide +kernel, by decide +kernel⟩, by decide, q181, Or.inl rfl, Or.inl ⟨rfl, rfl⟩⟩
theorem okM246 : OKM 246 := Or.inl ⟨q2028, rfl, rfl⟩
theorem okN247 : OKN 247 := ⟨okD_of ck247 (fun _ => rfl) (fun _ => rfl) rfl, by decide +kernel, rfl, ⟨by decide +kernel, by decide +kernel⟩, by decide, q181, Or.inl rfl, Or.inl ⟨rfl, rfl⟩⟩
theorem okM247 : OKM 247 := Or.inl ⟨q2032, rfl, rfl⟩
theorem okN248 : OKN 248 := ⟨okD_of ck248 (fun _ => rfl) (fun _ => rfl) rfl, by decide +kernel, rfl, ⟨by decide +kernel, by decide +kernel⟩, by decide, q181, Or.inl rfl, Or.inl ⟨rfl, rfl⟩⟩
theorem okM248 : OKM 248 := Or.inl ⟨q2036, rfl, rfl⟩
theorem okN249 : OKN 249 := ⟨okD_of ck249 (fun _ => rfl) (fun _ => rfl) rfl, by decide +kernel, rfl, ⟨by decide +kernel, by decide +kernel⟩, by decide, q181, Or.inl rfl, Or.inl ⟨rfl, rfl⟩⟩
theorem okM249 : OKM 249 := Or.inl ⟨q2040, rfl, rfl⟩
theorem okN250 : OKN 250 := ⟨okD_of ck250 (fun _ => rfl) (fun _ => rfl) rfl, by decide +kernel, rfl, ⟨by decide +kernel, by decide +kernel⟩, by decide, q181, Or.inl rfl, Or.inl ⟨rfl, rfl⟩⟩
theorem okM250 : OKM 250 := Or.inl ⟨q2044, rfl, rfl⟩
theorem okN251 : OKN 251 := ⟨okD_of ck251 (fun _ => rfl) (fun _ => rfl) rfl, by decide +kernel, rfl, ⟨by decide +kernel, by decide +kernel⟩, by decide, q181, Or.inl rfl, Or.inr (Or.inr (Or.inr (Or.inr ⟨rfl, rfl⟩)))⟩
theorem okM251 : OKM 251 := Or.inl ⟨q2048, rfl, rfl⟩
theorem okN252 : OKN 252 := ⟨okD_of ck252 (fun _ => rfl) (fun _ => rfl) rfl, by decide +kernel, rfl, ⟨by decide +kernel, by decide +kernel⟩, by decide, q181, Or.inl rfl, Or.inl ⟨rfl, rfl⟩⟩
theorem okM252 : OKM 252 := Or.inl ⟨q2052, rfl, rfl⟩
theorem okN253 : OKN 253 := ⟨okD_of ck253 (fun _ => rfl) (fun _ => rfl) rfl, by decide +kernel, rfl, ⟨by decide +kernel, by decide +kernel⟩, by decide, q181, Or.inl rfl, Or.inl ⟨rfl, rfl⟩⟩
theorem okM253 : OKM 253 := Or.inl ⟨q2056, rfl, rfl⟩
theorem okN254 : OKN 254 := ⟨okD_of ck254 (fun _ => rfl) (fun _ => rfl) rfl, by decide +kernel, rfl, ⟨by decide +kernel, by decide +kernel⟩, by decide, q181, Or.inl rfl, Or.inr (Or.inl ⟨rfl, rfl⟩)⟩
theorem okM254 : OKM 254 := Or.inl ⟨q2060, rfl, rfl⟩
theorem okN255 : OKN 255 := ⟨okD_of ck255 (fun _ => rfl) (fun _ => rfl) rfl, by decide +kernel, rfl, ⟨by decide +kernel, by decide +kernel⟩, by decide, q181, Or.inl rfl, Or.inr (Or.inr (Or.inl ⟨rfl, rfl⟩))⟩
theorem okM255 : OKM 255 := Or.inl ⟨q2063, rfl, rfl⟩
theorem okN256 : OKN 256 := ⟨okD_of ck256 (fun _ => rfl) (fun _ => rfl) rfl, by decide +kernel, rfl, ⟨by decide +kernel, by decide +kernel⟩, by decide, q181, Or.inl rfl, Or.inl ⟨rfl, rfl⟩⟩
theorem okM256 : OKM 256 := Or.inl ⟨q2068, rfl, rfl⟩
theorem okN257 : OKN 257 := ⟨okD_of ck257 (fun _ => rfl) (fun _ => rfl) rfl, by decide +kernel, rfl, ⟨by decide +kernel, by decide +kernel⟩, by decide, q181, Or.inl rfl, Or.inl ⟨rfl, rfl⟩⟩
theorem okM257 : OKM 257 := Or.inl ⟨q2075, rfl, rfl⟩
theorem okN258 : OKN 258 := ⟨okD_of ck258 (fun _ => rfl) (fun _ => rfl) rfl, by decide +kernel, rfl, ⟨by decide +kernel, by decide +kernel⟩, by decide, q181, Or.inl rfl, Or.inl ⟨rfl, rfl⟩⟩
theorem okM258 : OKM 258 := Or.inl ⟨q2084, rfl, rfl⟩
theorem okN259 : OKN 259 := ⟨okD_of ck259 (fun _ => rfl) (fun _ => rfl) rfl, by decide +kernel, rfl, ⟨by decide +kernel, by decide +kernel⟩, by decide, q181, Or.inl rfl, Or.inl ⟨rfl, rfl⟩⟩
theorem okM259 : OKM 259 := Or.inl ⟨q2088, rfl, rfl⟩
theorem okN260 : OKN 260 := ⟨okD_of ck260 (fun _ => rfl) (fun _ => rfl) rfl, by decide +kernel, rfl, ⟨by decide +kernel, by decide +kernel⟩, by decide, q181, Or.inl rfl, Or.inl ⟨rfl, rfl⟩⟩
theorem okM260 : OKM 260 := Or.inl ⟨q2092, rfl, rfl⟩
theorem okN261 : OKN 261 := ⟨okD_of ck261 (fun _ => rfl) (fun _ => rfl) rfl, by decide +kernel, rfl, ⟨by decide +kernel, by decide +kernel⟩, by decide, q181, Or.inl rfl, Or.inr (Or.inl ⟨rfl, rfl⟩)⟩
theorem okM261 : OKM 261 := Or.inl ⟨q2096, rfl, rfl⟩
theorem okN262 : OKN 262 := ⟨okD_of ck262 (fun _ => rfl) (fun _ => rfl) rfl, by decide +kernel, rfl, ⟨by decide +kernel, by decide +kernel⟩, by decide, q181, Or.inl rfl, Or.inl ⟨rfl, rfl⟩⟩
theorem okM262 : OKM 262 := Or.inl ⟨q2100, rfl, rfl⟩
theorem okN263 : OKN 263 := ⟨okD_of ck263 (fun _ => rfl) (fun _ => rfl) rfl, by decide +kernel, rfl, ⟨by decide +kernel, by decide +kernel⟩, by decide, q181, Or.inl rfl, Or.inr (Or.inr (Or.inr (Or.inr ⟨rfl, rfl⟩)))⟩
theorem okM263 : OKM 263 := Or.inl ⟨q2104, rfl, rfl⟩
theorem okN264 : OKN 264 := ⟨okD_of ck264 (fun _ => rfl) (fun _ => rfl) rfl, by decide +kernel, rfl, ⟨by decide +kernel, by decide +kernel⟩, by decide, q181, Or.inl rfl, Or.inr (Or.inr (Or.inr (Or.inr ⟨rfl, rfl⟩)))⟩
theorem okM264 : OKM 264 := Or.inl ⟨q2108, rfl, rfl⟩
theorem okN265 : OKN 265 := ⟨okD_of ck265 (fun _ => rfl) (fun _ => rfl) rfl, by decide +kernel, rfl, ⟨by decide +kernel, by decide +kernel⟩, by decide, q181, Or.inl rfl, Or.inl ⟨rfl, rfl⟩⟩
theorem okM265 : OKM 265 := Or.inl ⟨q2112, rfl, rfl⟩
theorem okN266 : OKN 266 := ⟨okD_of ck266 (fun _ => rfl) (fun _ => rfl) rfl, by decide +kernel, rfl, ⟨by decide +kernel, by decide +kernel⟩, by decide, q181, Or.inl rfl, Or.inl ⟨rfl, rfl⟩⟩
theorem okM266 : OKM 266 := Or.inl ⟨q2116, rfl, rfl⟩
theorem okN267 : OKN 267 := ⟨okD_of ck267 (fun _ => rfl) (fun _ => rfl) rfl, by decide +kernel, rfl, ⟨by decide +kernel, by decide +kernel⟩, by decide, q181, Or.inl rfl, Or.inl ⟨rfl, rfl⟩⟩
theorem okM267 : OKM 267 := Or.inl ⟨q2120, rfl, rfl⟩
theorem okN268 : OKN 268 := ⟨okD_of ck268 (fun _ => rfl) (fun _ => rfl) rfl, by decide +kernel, rfl, ⟨by decide +kernel, by decide +kernel⟩, by decide, q181, Or.inl rfl, Or.inl ⟨rfl, rfl⟩⟩
theorem okM268 : OKM 268 := Or.inl ⟨q2124, rfl, rfl⟩
theorem okN269 : OKN 269 := ⟨okD_of ck269 (fun _ => rfl) (fun _ => rfl) rfl, by decide +kernel, rfl, ⟨by decide +kernel, by decide +kernel⟩, by decide, q181, Or.inl rfl, Or.inl ⟨rfl, rfl⟩⟩
theorem okM269 : OKM 269 := Or.inl ⟨q2128, rfl, rfl⟩
theorem okN270 : OKN 270 := ⟨okD_of ck270 (fun _ => rfl) (fun _ => rfl) rfl, by decide +kernel, rfl, ⟨by decide +kernel, by decide +kernel⟩, by decide, q181, Or.inl rfl, Or.inr (Or.inr (Or.inl ⟨rfl, rfl⟩))⟩
theorem okM270 : OKM 270 := Or.inl ⟨q2132, rfl, rfl⟩
theorem okN271 : OKN 271 := ⟨okD_of ck271 (fun _ => rfl) (fun _ => rfl) rfl, by decide +kernel, rfl, ⟨by decide +kernel, by decide +kernel⟩, by decide, q181, Or.inl rfl, Or.inr (Or.inr (Or.inl ⟨rfl, rfl⟩))⟩
theorem okM271 : OKM 271 := Or.inl ⟨q2135, rfl, rfl⟩
theorem okN272 : OKN 272 := ⟨okD_of ck272 (fun _ => rfl) (fun _ => rfl) rfl, by decide +kernel, rfl, ⟨by decide +kernel, by decide +kernel⟩, by decide, q181, Or.inl rfl, Or.inr (Or.inr (Or.inl ⟨rfl, rfl⟩))⟩
theorem okM272 : OKM 272 := Or.inl ⟨q2139, rfl, rfl⟩
theorem okN273 : OKN 273 := ⟨okD_of ck273 (fun _ => rfl) (fun _ => rfl) rfl, by decide +kernel, rfl, ⟨by decide +kernel, by decide +kernel⟩, by decide, q181, Or.inl rfl, Or.inr (Or.inr (Or.inl ⟨rfl, rfl⟩))⟩
theorem okM273 : OKM 273 := Or.inl ⟨q2142, rfl, rfl⟩
theorem okN274 : OKN 274 := ⟨okD_of ck274 (fun _ => rfl) (fun _ => rfl) rfl, by decide +kernel, rfl, ⟨by decide +kernel, by decide +kernel⟩, by decide, q181, Or.inl rfl, Or.inr (Or.inr (Or.inr (Or.inr ⟨rfl, rfl⟩)))⟩
theorem okM274 : OKM 274 := Or.inl ⟨q2145, rfl, rfl⟩
theorem okN275 : OKN 275 := ⟨okD_of ck275 (fun _ => rfl) (fun _ => rfl) rfl, by decide +kernel, rfl, ⟨by decide +kernel, by decide +kernel⟩, by decide, q181, Or.inl rfl, Or.inr (Or.inl ⟨rfl, rfl⟩)⟩
theorem okM275 : OKM 275 := Or.inl ⟨q2150, rfl, rfl⟩
theorem okN276 : OKN 276 := ⟨okD_of ck276 (fun _ => rfl) (fun _ => rfl) rfl, by decide +kernel, rfl, ⟨by decide +kernel, by decide +kernel⟩, by decide, q181, Or.inl rfl, Or.inl ⟨rfl, rfl⟩⟩
theorem okM276 : OKM 276 := Or.inl ⟨q2154, rfl, rfl⟩
theorem okN277 : OKN 277 := ⟨okD_of ck277 (fun _ => rfl) (fun _ => rfl) rfl, by decide +kernel, rfl, ⟨by decide +kernel, by decide +kernel⟩, by decide, q181, Or.inl rfl, Or.inr (Or.inl ⟨rfl, rfl⟩)⟩
theorem okM277 : OKM 277 := Or.inl ⟨q2158, rfl, rfl⟩
theorem okN278 : OKN 278 := ⟨okD_of ck278 (fun _ => rfl) (fun _ => rfl) rfl, by decide +kernel, rfl, ⟨by decide +kernel, by decide +kernel⟩, by decide, q181, Or.inl rfl, Or.inr (Or.inl ⟨rfl, rfl⟩)⟩
theorem okM278 : OKM 278 := Or.inl ⟨q2162, rfl, rfl⟩
theorem okN279 : OKN 279 := ⟨okD_of ck279 (fun _ => rfl) (fun _ => rfl) rfl, by decide +kernel, rfl, ⟨by decide +kernel, by decide +kernel⟩, by decide, q181, Or.inl rfl, Or.inr (Or.inl ⟨rfl, rfl⟩)⟩
theorem okM279 : OKM 279 := Or.inl ⟨q2166, rfl, rfl⟩
theorem okN280 : OKN 280 := ⟨okD_of ck280 (fun _ => rfl) (fun _ => rfl) rfl, by decide +kernel, rfl, ⟨by decide +kernel, by decide +kernel⟩, by decide, q181, Or.inl rfl, Or.inr (Or.inr (Or.inr (Or.inr ⟨rfl, rfl⟩)))⟩
theorem okM280 : OKM 280 := Or.inl ⟨q2170, rfl, rfl⟩
theorem okN281 : OKN 281 := ⟨okD_of ck281 (fun _ => rfl) (fun _ => rfl) rfl, by decide +kernel, rfl, ⟨by decide +kernel, by decide +kernel⟩, by decide, q181, Or.inl rfl, Or.inr (Or.inr (Or.inr (Or.inr ⟨rfl, rfl⟩)))⟩
theorem okM281 : OKM 281 := Or.inl ⟨q2174, rfl, rfl⟩
theorem okN282 : OKN 282 := ⟨okD_of ck282 (fun _ => rfl) (fun _ => rfl) rfl, by decide +kernel, rfl, ⟨by decide +kernel, by decide +kernel⟩, by decide, q181, Or.inl rfl, Or.inr (Or.inl ⟨rfl, rfl⟩)⟩
theorem okM282 : OKM 282 := Or.inl ⟨q2178, rfl, rfl⟩
theorem okN283 : OKN 283 := ⟨okD_of ck283 (fun _ => rfl) (fun _ => rfl) rfl, by decide +kernel, rfl, ⟨by decide +kernel, by decide +kernel⟩, by decide, q181, Or.inl rfl, Or.inr (Or.inr (Or.inr (Or.inr ⟨rfl, rfl⟩)))⟩
theorem okM283 : OKM 283 := Or.inl ⟨q2182, rfl, rfl⟩
theorem okN284 : OKN 284 := ⟨okD_of ck284 (fun _ => rfl) (fun _ => rfl) rfl, by decide +kernel, rfl, ⟨by decide +kernel, by decide +kernel⟩, by decide, q181, Or.inl rfl, Or.inr (Or.inl ⟨rfl, rfl⟩)⟩
theorem okM284 : OKM 284 := Or.inl ⟨q2186, rfl, rfl⟩
theorem okN285 : OKN 285 := ⟨okD_of ck285 (fun _ => rfl) (fun _ => rfl) rfl, by decide +kernel, rfl, ⟨by decide +kernel, by decide +kernel⟩, by decide, q181, Or.inl rfl, Or.inl ⟨rfl, rfl⟩⟩
theorem okM285 : OKM 285 := Or.inl ⟨q2190, rfl, rfl⟩
theorem okN286 : OKN 286 := ⟨okD_of ck286 (fun _ => rfl) (fun _ => rfl) rfl, by decide +kernel, rfl, ⟨by decide +kernel, by decide +kernel⟩, by decide, q181, Or.inl rfl, Or.inl ⟨rfl, rfl⟩⟩
theorem okM286 : OKM 286 := Or.inl ⟨q2194, rfl, rfl⟩
theorem okN287 : OKN 287 := ⟨okD_of ck287 (fun _ => rfl) (fun _ => rfl) rfl, by decide +kernel, rfl, ⟨by decide +kernel, by decide +kernel⟩, by decide, q181, Or.inl rfl, Or.inr (Or.inl ⟨rfl, rfl⟩)⟩
theorem okM287 : OKM 287 := Or.inl ⟨q2198, rfl, rfl⟩
theorem okN288 : OKN 288 := ⟨okD_of ck288 (fun _ => rfl) (fun _ => rfl) rfl, by decide +kernel, rfl, ⟨by decide +kernel, by decide +kernel⟩, by decide, q181, Or.inl rfl, Or.inl ⟨rfl, rfl⟩⟩
theorem okM288 : OKM 288 := Or.inl ⟨q2202, rfl, rfl⟩
theorem okN289 : OKN 289 := ⟨okD_of ck289 (fun _ => rfl) (fun _ => rfl) rfl, by decide +kernel, rfl, ⟨by decide +kernel, by decide +kernel⟩, by decide, q181, Or.inl rfl, Or.inr (Or.inr (Or.inl ⟨rfl, rfl⟩))⟩
theorem okM289 : OKM 289 := Or.inl ⟨q2206, rfl, rfl⟩
theorem okN290 : OKN 290 := ⟨okD_of ck290 (fun _ => rfl) (fun _ => rfl) rfl, by decide +kernel, rfl, ⟨by decide +kernel, by decide +kernel⟩, by decide, q181, Or.inl rfl, Or.inr (Or.inl ⟨rfl, rfl⟩)⟩
theorem okM290 : OKM 290 := Or.inl ⟨q2210, rfl, rfl⟩
theorem okN291 : OKN 291 := ⟨okD_of ck291 (fun _ => rfl) (fun _ => rfl) rfl, by decide +kernel, rfl, ⟨by decide +kernel, by decide +kernel⟩, by decide, q181, Or.inl rfl, Or.inr (Or.inl ⟨rfl, rfl⟩)⟩
theorem okM291 : OKM 291 := Or.inl ⟨q2214, rfl, rfl⟩
theorem okN294 : OKN 294 := ⟨okD_of ck294 (fun _ => rfl) (fun _ => rfl) rfl, by decide +kernel, rfl, ⟨by decide +kernel, by decide +kernel⟩, by decide, q167, Or.inl rfl, Or.inr (Or.inr (Or.inr (Or.inr ⟨rfl, rfl⟩)))⟩
theorem okNa_0 : ∀ k ∈ ([0, 1, 2, 3, 4, 5, 6, 7, 8, 9, 10, 11, 12, 13, 14, 15, 16, 17, 18, 19] : List Nat), OKN k := List.forall_mem_cons.mpr ⟨okN0, List.forall_mem_cons.mpr ⟨okN1, List.forall_mem_cons.mpr ⟨okN2, List.forall_mem_cons.mpr ⟨okN3, List.forall_mem_cons.mpr ⟨okN4, List.forall_mem_cons.mpr ⟨okN5, List.forall_mem_cons.mpr ⟨okN6, List.forall_mem_cons.mpr ⟨okN7, List.forall_mem_cons.mpr ⟨okN8, List.forall_mem_cons.mpr ⟨okN9, List.forall_mem_cons.mpr ⟨okN10, List.forall_mem_cons.mpr ⟨okN11, List.forall_mem_cons.mpr ⟨okN12, List.forall_mem_cons.mpr ⟨okN13, List.forall_mem_cons.mpr ⟨okN14, List.forall_mem_cons.mpr ⟨okN15, List.forall_mem_cons.mpr ⟨okN16, List.forall_mem_cons.mpr ⟨okN17, List.forall_mem_cons.mpr ⟨okN18, List.forall_mem_cons.mpr ⟨okN19, fun _ h => absurd h List.not_mem_nil⟩⟩⟩⟩⟩⟩⟩⟩⟩⟩⟩⟩⟩⟩⟩⟩⟩⟩⟩⟩
theorem okNa_1 : ∀ k ∈ ([20, 21, 22, 23, 24, 25, 26, 27, 28, 29, 30, 31, 32, 33, 34, 35, 36, 37, 38, 39] : List Nat), OKN k := List.forall_mem_cons.mpr ⟨okN20, List.forall_mem_cons.mpr ⟨okN21, List.forall_mem_cons.mpr ⟨okN22, List.forall_mem_cons.mpr ⟨okN23, List.forall_mem_cons.mpr ⟨okN24, List.forall_mem_cons.mpr ⟨okN25, List.forall_mem_cons.mpr ⟨okN26, List.forall_mem_cons.mpr ⟨okN27, List.forall_mem_cons.mpr ⟨okN28, List.forall_mem_cons.mpr ⟨okN29, List.forall_mem_cons.mpr ⟨okN30, List.forall_mem_cons.mpr ⟨okN31, List.forall_mem_cons.mpr ⟨okN32, List.forall_mem_cons.mpr ⟨okN33, List.forall_mem_cons.mpr ⟨okN34, List.forall_mem_cons.mpr ⟨okN35, List.forall_mem_cons.mpr ⟨okN36, List.forall_mem_cons.mpr ⟨okN37, List.forall_mem_cons.mpr ⟨okN38, List.forall_mem_cons.mpr ⟨okN39, fun _ h => absurd h List.not_mem_nil⟩⟩⟩⟩⟩⟩⟩⟩⟩⟩⟩⟩⟩⟩⟩⟩⟩⟩⟩⟩
theorem okNa_2 : ∀ k ∈ ([40, 41, 42, 43, 44, 45, 46, 47, 48, 49, 50, 51, 52, 53, 54, 55, 56, 57, 58, 59] : List Nat), OKN k := List.forall_mem_cons.mpr ⟨okN40, List.forall_mem_cons.mpr ⟨okN41, List.forall_mem_cons.mpr ⟨okN42, List.forall_mem_cons.mpr ⟨okN43, List.forall_mem_cons.mpr ⟨okN44, List.forall_mem_cons.mpr ⟨okN45, List.forall_mem_cons.mpr ⟨okN46, List.forall_mem_cons.mpr ⟨okN47, List.forall_mem_cons.mpr ⟨okN48, List.forall_mem_cons.mpr ⟨okN49, List.forall_mem_cons.mpr ⟨okN50, List.forall_mem_cons.mpr ⟨okN51, List.forall_mem_cons.mpr ⟨okN52, List.forall_mem_cons.mpr ⟨okN53, List.forall_mem_cons.mpr ⟨okN54, List.forall_mem_cons.mpr ⟨okN55, List.forall_mem_cons.mpr ⟨okN56, List.forall_mem_cons.mpr ⟨okN57, List.forall_mem_cons.mpr ⟨okN58, List.forall_mem_cons.mpr ⟨okN59, fun _ h => absurd h List.not_mem_nil⟩⟩⟩⟩⟩⟩⟩⟩⟩⟩⟩⟩⟩⟩⟩⟩⟩⟩⟩⟩
theorem okNa_3 : ∀ k ∈ ([60, 61, 62, 63, 64, 65, 66, 67, 68, 69, 70, 71, 72, 73, 74, 75, 76, 77, 78, 79] : List Nat), OKN k := List.forall_mem_cons.mpr ⟨okN60, List.forall_mem_cons.mpr ⟨okN61, List.forall_mem_cons.mpr ⟨okN62, List.forall_mem_cons.mpr ⟨okN63, List.forall_mem_cons.mpr ⟨okN64, List.forall_mem_cons.mpr ⟨okN65, List.forall_mem_cons.mpr ⟨okN66, List.forall_mem_cons.mpr ⟨okN67, List.forall_mem_cons.mpr ⟨okN68, List.forall_mem_cons.mpr ⟨okN69, List.forall_mem_cons.mpr ⟨okN70, List.forall_mem_cons.mpr ⟨okN71, List.forall_mem_cons.mpr ⟨okN72, List.forall_mem_cons.mpr ⟨okN73, List.forall_mem_cons.mpr ⟨okN74, List.forall_mem_cons.mpr ⟨okN75, List.forall_mem_cons.mpr ⟨okN76, List.forall_mem_cons.mpr ⟨okN77, List.forall_mem_cons.mpr ⟨okN78, List.forall_mem_cons.mpr ⟨okN79, fun _ h => absurd h List.not_mem_nil⟩⟩⟩⟩⟩⟩⟩⟩⟩⟩⟩⟩⟩⟩⟩⟩⟩⟩⟩⟩
theorem okNa_4 : ∀ k ∈ ([80, 81, 82, 83, 84, 85, 86, 87, 88, 89, 90, 91, 92, 93, 94, 95, 96, 97, 98, 99] : List Nat), OKN k := List.forall_mem_cons.mpr ⟨okN80, List.forall_mem_cons.mpr ⟨okN81, List.forall_mem_cons.mpr ⟨okN82, List.forall_mem_cons.mpr ⟨okN83, List.forall_mem_cons.mpr ⟨okN84, List.forall_mem_cons.mpr ⟨okN85, List.forall_mem_cons.mpr ⟨okN86, List.forall_mem_cons.mpr ⟨okN87, List.forall_mem_cons.mpr ⟨okN88, List.forall_mem_cons.mpr ⟨okN89, List.forall_mem_cons.mpr ⟨okN90, List.forall_mem_cons.mpr ⟨okN91, List.forall_mem_cons.mpr ⟨okN92, List.forall_mem_cons.mpr ⟨okN93, List.forall_mem_cons.mpr ⟨okN94, List.forall_mem_cons.mpr ⟨okN95, List.forall_mem_cons.mpr ⟨okN96, List.forall_mem_cons.mpr ⟨okN97, List.forall_mem_cons.mpr ⟨okN98, List.forall_mem_cons.mpr ⟨okN99, fun _ h => absurd h List.not_mem_nil⟩⟩⟩⟩⟩⟩⟩⟩⟩⟩⟩⟩⟩⟩⟩⟩⟩⟩⟩⟩
theorem okNa_5 : ∀ k ∈ ([100, 101, 102, 103, 104, 105, 106, 107, 108, 109, 110, 111, 112, 113, 114, 115, 116, 117, 118, 119] : List Nat), OKN k := List.forall_mem_cons.mpr ⟨okN100, List.forall_mem_cons.mpr ⟨okN101, List.forall_mem_cons.mpr ⟨okN102, List.forall_mem_cons.mpr ⟨okN103, List.forall_mem_cons.mpr ⟨okN104, List.forall_mem_cons.mpr ⟨okN105, List.forall_mem_cons.mpr ⟨okN106, List.forall_mem_cons.mpr ⟨okN107, List.forall_mem_cons.mpr ⟨okN108, List.forall_mem_cons.mpr ⟨okN109, List.forall_mem_cons.mpr ⟨okN110, List.forall_mem_cons.mpr ⟨okN111, List.forall_mem_cons.mpr ⟨okN112, List.forall_mem_cons.mpr ⟨okN113, List.forall_mem_cons.mpr ⟨okN114, List.forall_mem_cons.mpr ⟨okN115, List.forall_mem_cons.mpr ⟨okN116, List.forall_mem_cons.mpr ⟨okN117, List.forall_mem_cons.mpr ⟨okN118, List.forall_mem_cons.mpr ⟨okN119, fun _ h => absurd h List.not_mem_nil⟩⟩⟩⟩⟩⟩⟩⟩⟩⟩⟩⟩⟩⟩⟩⟩⟩⟩⟩⟩
theorem okNa_6 : ∀ k ∈ ([120, 121, 122, 123, 124, 125, 126, 127, 128, 129, 130, 131, 132, 133, 134, 135, 136, 137, 138, 139] : List Nat), OKN k := List.forall_mem_cons.mpr ⟨okN120, List.forall_mem_cons.mpr ⟨okN121, List.forall_mem_cons.mpr ⟨okN122, List.forall_mem_cons.mpr ⟨okN123, List.forall_mem_cons.mpr ⟨okN124, List.forall_mem_cons.mpr ⟨okN125, List.forall_mem_cons.mpr ⟨okN126, List.forall_mem_cons.mpr ⟨okN127, List.forall_mem_cons.mpr ⟨okN128, List.forall_mem_cons.mpr ⟨okN129, List.forall_mem_cons.mpr ⟨okN130, List.forall_mem_cons.mpr ⟨okN131, List.forall_mem_cons.mpr ⟨okN132, List.forall_mem_cons.mpr ⟨okN133, List.forall_mem_cons.mpr ⟨okN134, List.forall_mem_cons.mpr ⟨okN135, List.forall_mem_cons.mpr ⟨okN136, List.forall_mem_cons.mpr ⟨okN137, List.forall_mem_cons.mpr ⟨okN138, List.forall_mem_cons.mpr ⟨okN139, fun _ h => absurd h List.not_mem_nil⟩⟩⟩⟩⟩⟩⟩⟩⟩⟩⟩⟩⟩⟩⟩⟩⟩⟩⟩⟩
theorem okNa_7 : ∀ k ∈ ([140, 141, 142, 143, 144, 145, 146, 147, 148, 149, 150, 151, 152, 153, 154, 155, 156, 157, 158, 159] : List Nat), OKN k := List.forall_mem_cons.mpr ⟨okN140, List.forall_mem_cons.mpr ⟨okN141, List.forall_mem_cons.mpr ⟨okN142, List.forall_mem_cons.mpr ⟨okN143, List.forall_mem_cons.mpr ⟨okN144, List.forall_mem_cons.mpr ⟨okN145, List.forall_mem_cons.mpr ⟨okN146, List.forall_mem_cons.mpr ⟨okN147, List.forall_mem_cons.mpr ⟨okN148, List.forall_mem_cons.mpr ⟨okN149, List.forall_mem_cons.mpr ⟨okN150, List.forall_mem_cons.mpr ⟨okN151, List.forall_mem_cons.mpr ⟨okN152, List.forall_mem_cons.mpr ⟨okN153, List.forall_mem_cons.mpr ⟨okN154, List.forall_mem_cons.mpr ⟨okN155, List.forall_mem_cons.mpr ⟨okN156, List.forall_mem_cons.mpr ⟨okN157, List.forall_mem_cons.mpr ⟨okN158, List.forall_mem_cons.mpr ⟨okN159, fun _ h => absurd h List.not_mem_nil⟩⟩⟩⟩⟩⟩⟩⟩⟩⟩⟩⟩⟩⟩⟩⟩⟩⟩⟩⟩
theorem okNa_8 : ∀ k ∈ ([160, 161, 162, 163, 164, 165, 166, 167, 168, 169, 170, 171, 172, 173, 174, 175, 176, 177, 178, 179] : List Nat), OKN k := List.forall_mem_cons.mpr ⟨okN160, List.forall_mem_cons.mpr ⟨okN161, List.forall_mem_cons.mpr ⟨okN162, List.forall_mem_cons.mpr ⟨okN163, List.forall_mem_cons.mpr ⟨okN164, List.forall_mem_cons.mpr ⟨okN165, List.forall_mem_cons.mpr ⟨okN166, List.forall_mem_cons.mpr ⟨okN167, List.forall_mem_cons.mpr ⟨okN168, List.forall_mem_cons.mpr ⟨okN169, List.forall_mem_cons.mpr ⟨okN170, List.forall_mem_cons.mpr ⟨okN171, List.forall_mem_cons.mpr ⟨okN172, List.forall_mem_cons.mpr ⟨okN173, List.forall_mem_cons.mpr ⟨okN174, List.forall_mem_cons.mpr ⟨okN175, List.forall_mem_cons.mpr ⟨okN176, List.forall_mem_cons.mpr ⟨okN177, List.forall_mem_cons.mpr ⟨okN178, List.forall_mem_cons.mpr ⟨okN179, fun _ h => absurd h List.not_mem_nil⟩⟩⟩⟩⟩⟩⟩⟩⟩⟩⟩⟩⟩⟩⟩⟩⟩⟩⟩⟩
theorem okNa_9 : ∀ k ∈ ([180, 181, 182, 183, 184, 185, 186, 187, 188, 189, 190, 191, 192, 193, 194, 195, 196, 197, 198, 199] : List Nat), OKN k := List.forall_mem_cons.mpr ⟨okN180, List.forall_mem_cons.mpr ⟨okN181, List.forall_mem_cons.mpr ⟨okN182, List.forall_mem_cons.mpr ⟨okN183, List.forall_mem_cons.mpr ⟨okN184, List.forall_mem_cons.mpr ⟨okN185, List.forall_mem_cons.mpr ⟨okN186, List.forall_mem_cons.mpr ⟨okN187, List.forall_mem_cons.mpr ⟨okN188, List.forall_mem_cons.mpr ⟨okN189, List.forall_mem_cons.mpr ⟨okN190, List.forall_mem_cons.mpr ⟨okN191, List.forall_mem_cons.mpr ⟨okN192, List.forall_mem_cons.mpr ⟨okN193, List.forall_mem_cons.mpr ⟨okN194, List.forall_mem_cons.mpr ⟨okN195, List.forall_mem_cons.mpr ⟨okN196, List.forall_mem_cons.mpr ⟨okN197, List.forall_mem_cons.mpr ⟨okN198, List.forall_mem_cons.mpr ⟨okN199, fun _ h => absurd h List.not_mem_nil⟩⟩⟩⟩⟩⟩⟩⟩⟩⟩⟩⟩⟩⟩⟩⟩⟩⟩⟩⟩
theorem okNa_10 : ∀ k ∈ ([200, 201, 202, 203, 204, 205, 206, 207, 208, 209, 210, 211, 212, 213, 214, 215, 216, 217, 218, 219] : List Nat), OKN k := List.forall_mem_cons.mpr ⟨okN200, List.forall_mem_cons.mpr ⟨okN201, List.forall_mem_cons.mpr ⟨okN202, List.forall_mem_cons.mpr ⟨okN203, List.forall_mem_cons.mpr ⟨okN204, List.forall_mem_cons.mpr ⟨okN205, List.forall_mem_cons.mpr ⟨okN206, List.forall_mem_cons.mpr ⟨okN207, List.forall_mem_cons.mpr ⟨okN208, List.forall_mem_cons.mpr ⟨okN209, List.forall_mem_cons.mpr ⟨okN210, List.forall_mem_cons.mpr ⟨okN211, List.forall_mem_cons.mpr ⟨okN212, List.forall_mem_cons.mpr ⟨okN213, List.forall_mem_cons.mpr ⟨okN214, List.forall_mem_cons.mpr ⟨okN215, List.forall_mem_cons.mpr ⟨okN216, List.forall_mem_cons.mpr ⟨okN217, List.forall_mem_cons.mpr ⟨okN218, List.forall_mem_cons.mpr ⟨okN219, fun _ h => absurd h List.not_mem_nil⟩⟩⟩⟩⟩⟩⟩⟩⟩⟩⟩⟩⟩⟩⟩⟩⟩⟩⟩⟩
theorem okNa_11 : ∀ k ∈ ([220, 221, 222, 223, 224, 225, 226, 227, 228, 229, 230, 231, 232, 233, 234, 235, 236, 237, 238, 239] : List Nat), OKN k := List.forall_mem_cons.mpr ⟨okN220, List.forall_mem_cons.mpr ⟨okN221, List.forall_mem_cons.mpr ⟨okN222, List.forall_mem_cons.mpr ⟨okN223, List.forall_mem_cons.mpr ⟨okN224, List.forall_mem_cons.mpr ⟨okN225, List.forall_mem_cons.mpr ⟨okN226, List.forall_mem_cons.mpr ⟨okN227, List.forall_mem_cons.mpr ⟨okN228, List.forall_mem_cons.mpr ⟨okN229, List.forall_mem_cons.mpr ⟨okN230, List.forall_mem_cons.mpr ⟨okN231, List.forall_mem_cons.mpr ⟨okN232, List.forall_mem_cons.mpr ⟨okN233, List.forall_mem_cons.mpr ⟨okN234, List.forall_mem_cons.mpr ⟨okN235, List.forall_mem_cons.mpr ⟨okN236, List.forall_mem_cons.mpr ⟨okN237, List.forall_mem_cons.mpr ⟨okN238, List.forall_mem_cons.mpr ⟨okN239, fun _ h => absurd h List.not_mem_nil⟩⟩⟩⟩⟩⟩⟩⟩⟩⟩⟩⟩⟩⟩⟩⟩⟩⟩⟩⟩
theorem okNa_12 : ∀ k ∈ ([240, 241, 242, 243, 244, 245, 246, 247, 248, 249, 250, 251, 252, 253, 254, 255, 256, 257, 258, 259] : List Nat), OKN k := List.forall_mem_cons.mpr ⟨okN240, List.forall_mem_cons.mpr ⟨okN241, List.forall_mem_cons.mpr ⟨okN242, List.forall_mem_cons.mpr ⟨okN243, List.forall_mem_cons.mpr ⟨okN244, List.forall_mem_cons.mpr ⟨okN245, List.forall_mem_cons.mpr ⟨okN246, List.forall_mem_cons.mpr ⟨okN247, List.forall_mem_cons.mpr ⟨okN248, List.forall_mem_cons.mpr ⟨okN249, List.forall_mem_cons.mpr ⟨okN250, List.forall_mem_cons.mpr ⟨okN251, List.forall_mem_cons.mpr ⟨okN252, List.forall_mem_cons.mpr ⟨okN253, List.forall_mem_cons.mpr ⟨okN254, List.forall_mem_cons.mpr ⟨okN255, List.forall_mem_cons.mpr ⟨okN256, List.forall_mem_cons.mpr ⟨okN257, List.forall_mem_cons.mpr ⟨okN258, List.forall_mem_cons.mpr ⟨okN259, fun _ h => absurd h List.not_mem_nil⟩⟩⟩⟩⟩⟩⟩⟩⟩⟩⟩⟩⟩⟩⟩⟩⟩⟩⟩⟩
theorem okNa_13 : ∀ k ∈ ([260, 261, 262, 263, 264, 265, 266, 267, 268, 269, 270, 271, 272, 273, 274, 275, 276, 277, 278, 279] : List Nat), OKN k := List.forall_mem_cons.mpr ⟨okN260, List.forall_mem_cons.mpr ⟨okN261, List.forall_mem_cons.mpr ⟨okN262, List.forall_mem_cons.mpr ⟨okN263, List.forall_mem_cons.mpr ⟨okN264, List.forall_mem_cons.mpr ⟨okN265, List.forall_mem_cons.mpr ⟨okN266, List.forall_mem_cons.mpr ⟨okN267, List.forall_mem_cons.mpr ⟨okN268, List.forall_mem_cons.mpr ⟨okN269, List.forall_mem_cons.mpr ⟨okN270, List.forall_mem_cons.mpr ⟨okN271, List.forall_mem_cons.mpr ⟨okN272, List.forall_mem_cons.mpr ⟨okN273, List.forall_mem_cons.mpr ⟨okN274, List.forall_mem_cons.mpr ⟨okN275, List.forall_mem_cons.mpr ⟨okN276, List.forall_mem_cons.mpr ⟨okN277, List.forall_mem_cons.mpr ⟨okN278, List.forall_mem_cons.mpr ⟨okN279, fun _ h => absurd h List.not_mem_nil⟩⟩⟩⟩⟩⟩⟩⟩⟩⟩⟩⟩⟩⟩⟩⟩⟩⟩⟩⟩
theorem okNa_14 : ∀ k ∈ ([280, 281, 282, 283, 284, 285, 286, 287, 288, 289, 290, 291] : List Nat), OKN k := List.forall_mem_cons.mpr ⟨okN280, List.forall_mem_cons.mpr ⟨okN281, List.forall_mem_cons.mpr ⟨okN282, List.forall_mem_cons.mpr ⟨okN283, List.forall_mem_cons.mpr ⟨okN284, List.forall_mem_cons.mpr ⟨okN285, List.forall_mem_cons.mpr ⟨okN286, List.forall_mem_cons.mpr ⟨okN287, List.forall_mem_cons.mpr ⟨okN288, List.forall_mem_cons.mpr ⟨okN289, List.forall_mem_cons.mpr ⟨okN290, List.forall_mem_cons.mpr ⟨okN291, fun _ h => absurd h List.not_mem_nil⟩⟩⟩⟩⟩⟩⟩⟩⟩⟩⟩⟩
theorem okNa : ∀ k, k < 292 → OKN k := by
  intro k hk
  rcases (show k < 20 ∨ (20 ≤ k ∧ k < 40) ∨ (40 ≤ k ∧ k < 60) ∨ (60 ≤ k ∧ k < 80) ∨ (80 ≤ k ∧ k < 100) ∨ (100 ≤ k ∧ k < 120) ∨ (120 ≤ k ∧ k < 140) ∨ (140 ≤ k ∧ k < 160) ∨ (160 ≤ k ∧ k < 180) ∨ (180 ≤ k ∧ k < 200) ∨ (200 ≤ k ∧ k < 220) ∨ (220 ≤ k ∧ k < 240) ∨ (240 ≤ k ∧ k < 260) ∨ (260 ≤ k ∧ k < 280) ∨ (280 ≤ k ∧ k < 292) by omega) with h | h | h | h | h | h | h | h | h | h | h | h | h | h | h
  · exact okNa_0 k (by simp only [List.mem_cons, List.not_mem_nil, or_false]; omega)
  · exact okNa_1 k (by simp only [List.mem_cons, List.not_mem_nil, or_false]; omega)
  · exact okNa_2 k (by simp only [List.mem_cons, List.not_mem_nil, or_false]; omega)
  · exact okNa_3 k (by simp only [List.mem_cons, List.not_mem_nil, or_false]; omega)
  · exact okNa_4 k (by simp only [List.mem_cons, List.not_mem_nil, or_false]; omega)
  · exact okNa_5 k (by simp only [List.mem_cons, List.not_mem_nil, or_false]; omega)
  · exact okNa_6 k (by simp only [List.mem_cons, List.not_mem_nil, or_false]; omega)
  · exact okNa_7 k (by simp only [List.mem_cons, List.not_mem_nil, or_false]; omega)
  · exact okNa_8 k (by simp only [List.mem_cons, List.not_mem_nil, or_false]; omega)
  · exact okNa_9 k (by simp only [List.mem_cons, List.not_mem_nil, or_false]; omega)
  · exact okNa_10 k (by simp only [List.mem_cons, List.not_mem_nil, or_false]; omega)
  · exact okNa_11 k (by simp only [List.mem_cons, List.not_mem_nil, or_false]; omega)
  · exact okNa_12 k (by simp only [List.mem_cons, List.not_mem_nil, or_false]; omega)
  · exact okNa_13 k (by simp only [List.mem_cons, List.not_mem_nil, or_false]; omega)
  · exact okNa_14 k (by simp only [List.mem_cons, List.not_mem_nil, or_false]; omega)
theorem okN {k : Nat} (h : k < 292 ∨ k = 294) : OKN k := by
  rcases h with h | h
  · exact okNa k h
  · rw [h]; exact okN294
theorem okM_0 : ∀ k ∈ ([0, 1, 2, 3, 4, 5, 6, 7, 8, 9, 10, 11, 12, 13, 14, 15, 16, 17, 18, 19] : List Nat), OKM k := List.forall_mem_cons.mpr ⟨okM0, List.forall_mem_cons.mpr ⟨okM1, List.forall_mem_cons.mpr ⟨okM2, List.forall_mem_cons.mpr ⟨okM3, List.forall_mem_cons.mpr ⟨okM4, List.forall_mem_cons.mpr ⟨okM5, List.forall_mem_cons.mpr ⟨okM6, List.forall_mem_cons.mpr ⟨okM7, List.forall_mem_cons.mpr ⟨okM8, List.forall_mem_cons.mpr ⟨okM9, List.forall_mem_cons.mpr ⟨okM10, List.forall_mem_cons.mpr ⟨okM11, List.forall_mem_cons.mpr ⟨okM12, List.forall_mem_cons.mpr ⟨okM13, List.forall_mem_cons.mpr ⟨okM14, List.forall_mem_cons.mpr ⟨okM15, List.forall_mem_cons.mpr ⟨okM16, List.forall_mem_cons.mpr ⟨okM17, List.forall_mem_cons.mpr ⟨okM18, List.forall_mem_cons.mpr ⟨okM19, fun _ h => absurd h List.not_mem_nil⟩⟩⟩⟩⟩⟩⟩⟩⟩⟩⟩⟩⟩⟩⟩⟩⟩⟩⟩⟩
theorem okM_1 : ∀ k ∈ ([20, 21, 22, 23, 24, 25, 26, 27, 28, 29, 30, 31, 32, 33, 34, 35, 36, 37, 38, 39] : List Nat), OKM k := List.forall_mem_cons.mpr ⟨okM20, List.forall_mem_cons.mpr ⟨okM21, List.forall_mem_cons.mpr ⟨okM22, List.forall_mem_cons.mpr ⟨okM23, List.forall_mem_cons.mpr ⟨okM24, List.forall_mem_cons.mpr ⟨okM25, List.forall_mem_cons.mpr ⟨okM26, List.forall_mem_cons.mpr ⟨okM27, List.forall_mem_cons.mpr ⟨okM28, List.forall_mem_cons.mpr ⟨okM29, List.forall_mem_cons.mpr ⟨okM30, List.forall_mem_cons.mpr ⟨okM31, List.forall_mem_cons.mpr ⟨okM32, List.forall_mem_cons.mpr ⟨okM33, List.forall_mem_cons.mpr ⟨okM34, List.forall_mem_cons.mpr ⟨okM35, List.forall_mem_cons.mpr ⟨okM36, List.forall_mem_cons.mpr ⟨okM37, List.forall_mem_cons.mpr ⟨okM38, List.forall_mem_cons.mpr ⟨okM39, fun _ h => absurd h List.not_mem_nil⟩⟩⟩⟩⟩⟩⟩⟩⟩⟩⟩⟩⟩⟩⟩⟩⟩⟩⟩⟩
theorem okM_2 : ∀ k ∈ ([40, 41, 42, 43, 44, 45, 46, 47, 48, 49, 50, 51, 52, 53, 54, 55, 56, 57, 58, 59] : List Nat), OKM k := List.forall_mem_cons.mpr ⟨okM40, List.forall_mem_cons.mpr ⟨okM41, List.forall_mem_cons.mpr ⟨okM42, List.forall_mem_cons.mpr ⟨okM43, List.forall_mem_cons.mpr ⟨okM44, List.forall_mem_cons.mpr ⟨okM45, List.forall_mem_cons.mpr ⟨okM46, List.forall_mem_cons.mpr ⟨okM47, List.forall_mem_cons.mpr ⟨okM48, List.forall_mem_cons.mpr ⟨okM49, List.forall_mem_cons.mpr ⟨okM50, List.forall_mem_cons.mpr ⟨okM51, List.forall_mem_cons.mpr ⟨okM52, List.forall_mem_cons.mpr ⟨okM53, List.forall_mem_cons.mpr ⟨okM54, List.forall_mem_cons.mpr ⟨okM55, List.forall_mem_cons.mpr ⟨okM56, List.forall_mem_cons.mpr ⟨okM57, List.forall_mem_cons.mpr ⟨okM58, List.forall_mem_cons.mpr ⟨okM59, fun _ h => absurd h List.not_mem_nil⟩⟩⟩⟩⟩⟩⟩⟩⟩⟩⟩⟩⟩⟩⟩⟩⟩⟩⟩⟩
theorem okM_3 : ∀ k ∈ ([60, 61, 62, 63, 64, 65, 66, 67, 68, 69, 70, 71, 72, 73, 74, 75, 76, 77, 78, 79] : List Nat), OKM k := List.forall_mem_cons.mpr ⟨okM60, List.forall_mem_cons.mpr ⟨okM61, List.forall_mem_cons.mpr ⟨okM62, List.forall_mem_cons.mpr ⟨okM63, List.forall_mem_cons.mpr ⟨okM64, List.forall_mem_cons.mpr ⟨okM65, List.forall_mem_cons.mpr ⟨okM66, List.forall_mem_cons.mpr ⟨okM67, List.forall_mem_cons.mpr ⟨okM68, List.forall_mem_cons.mpr ⟨okM69, List.forall_mem_cons.mpr ⟨okM70, List.forall_mem_cons.mpr ⟨okM71, List.forall_mem_cons.mpr ⟨okM72, List.forall_mem_cons.mpr ⟨okM73, List.forall_mem_cons.mpr ⟨okM74, List.forall_mem_cons.mpr ⟨okM75, List.forall_mem_cons.mpr ⟨okM76, List.forall_mem_cons.mpr ⟨okM77, List.forall_mem_cons.mpr ⟨okM78, List.forall_mem_cons.mpr ⟨okM79, fun _ h => absurd h List.not_mem_nil⟩⟩⟩⟩⟩⟩⟩⟩⟩⟩⟩⟩⟩⟩⟩⟩⟩⟩⟩⟩
theorem okM_4 : ∀ k ∈ ([80, 81, 82, 83, 84, 85, 86, 87, 88, 89, 90, 91, 92, 93, 94, 95, 96, 97, 98, 99] : List Nat), OKM k := List.forall_mem_cons.mpr ⟨okM80, List.forall_mem_cons.mpr ⟨okM81, List.forall_mem_cons.mpr ⟨okM82, List.forall_mem_cons.mpr ⟨okM83, List.forall_mem_cons.mpr ⟨okM84, List.forall_mem_cons.mpr ⟨okM85, List.forall_mem_cons.mpr ⟨okM86, List.forall_mem_cons.mpr ⟨okM87, List.forall_mem_cons.mpr ⟨okM88, List.forall_mem_cons.mpr ⟨okM89, List.forall_mem_cons.mpr ⟨okM90, List.forall_mem_cons.mpr ⟨okM91, List.forall_mem_cons.mpr ⟨okM92, List.forall_mem_cons.mpr ⟨okM93, List.forall_mem_cons.mpr ⟨okM94, List.forall_mem_cons.mpr ⟨okM95, List.forall_mem_cons.mpr ⟨okM96, List.forall_mem_cons.mpr ⟨okM97, List.forall_mem_cons.mpr ⟨okM98, List.forall_mem_cons.mpr ⟨okM99, fun _ h => absurd h List.not_mem_nil⟩⟩⟩⟩⟩⟩⟩⟩⟩⟩⟩⟩⟩⟩⟩⟩⟩⟩⟩⟩
theorem okM_5 : ∀ k ∈ ([100, 101, 102, 103, 104, 105, 106, 107, 108, 109, 110, 111, 112, 113, 114, 115, 116, 117, 118, 119] : List Nat), OKM k := List.forall_mem_cons.mpr ⟨okM100, List.forall_mem_cons.mpr ⟨okM101, List.forall_mem_cons.mpr ⟨okM102, List.forall_mem_cons.mpr ⟨okM103, List.forall_mem_cons.mpr ⟨okM104, List.forall_mem_cons.mpr ⟨okM105, List.forall_mem_cons.mpr ⟨okM106, List.forall_mem_cons.mpr ⟨okM107, List.forall_mem_cons.mpr ⟨okM108, List.forall_mem_cons.mpr ⟨okM109, List.forall_mem_cons.mpr ⟨okM110, List.forall_mem_cons.mpr ⟨okM111, List.forall_mem_cons.mpr ⟨okM112, List.forall_mem_cons.mpr ⟨okM113, List.forall_mem_cons.mpr ⟨okM114, List.forall_mem_cons.mpr ⟨okM115, List.forall_mem_cons.mpr ⟨okM116, List.forall_mem_cons.mpr ⟨okM117, List.forall_mem_cons.mpr ⟨okM118, List.forall_mem_cons.mpr ⟨okM119, fun _ h => absurd h List.not_mem_nil⟩⟩⟩⟩⟩⟩⟩⟩⟩⟩⟩⟩⟩⟩⟩⟩⟩⟩⟩⟩
theorem okM_6 : ∀ k ∈ ([120, 121, 122, 123, 124, 125, 126, 127, 128, 129, 130, 131, 132, 133, 134, 135, 136, 137, 138, 139] : List Nat), OKM k := List.forall_mem_cons.mpr ⟨okM120, List.forall_mem_cons.mpr ⟨okM121, List.forall_mem_cons.mpr ⟨okM122, List.forall_mem_cons.mpr ⟨okM123, List.forall_mem_cons.mpr ⟨okM124, List.forall_mem_cons.mpr ⟨okM125, List.forall_mem_cons.mpr ⟨okM126, List.forall_mem_cons.mpr ⟨okM127, List.forall_mem_cons.mpr ⟨okM128, List.forall_mem_cons.mpr ⟨okM129, List.forall_mem_cons.mpr ⟨okM130, List.forall_mem_cons.mpr ⟨okM131, List.forall_mem_cons.mpr ⟨okM132, List.forall_mem_cons.mpr ⟨okM133, List.forall_mem_cons.mpr ⟨okM134, List.forall_mem_cons.mpr ⟨okM135, List.forall_mem_cons.mpr ⟨okM136, List.forall_mem_cons.mpr ⟨okM137, List.forall_mem_cons.mpr ⟨okM138, List.forall_mem_cons.mpr ⟨okM139, fun _ h => absurd h List.not_mem_nil⟩⟩⟩⟩⟩⟩⟩⟩⟩⟩⟩⟩⟩⟩⟩⟩⟩⟩⟩⟩
theorem okM_7 : ∀ k ∈ ([140, 141, 142, 143, 144, 145, 146, 147, 148, 149, 150, 151, 152, 153, 154, 155, 156, 157, 158, 159] : List Nat), OKM k := List.forall_mem_cons.mpr ⟨okM140, List.forall_mem_cons.mpr ⟨okM141, List.forall_mem_cons.mpr ⟨okM142, List.forall_mem_cons.mpr ⟨okM143, List.forall_mem_cons.mpr ⟨okM144, List.forall_mem_cons.mpr ⟨okM145, List.forall_mem_cons.mpr ⟨okM146, List.forall_mem_cons.mpr ⟨okM147, List.forall_mem_cons.mpr ⟨okM148, List.forall_mem_cons.mpr ⟨okM149, List.forall_mem_cons.mpr ⟨okM150, List.forall_mem_cons.mpr ⟨okM151, List.forall_mem_cons.mpr ⟨okM152, List.forall_mem_cons.mpr ⟨okM153, List.forall_mem_cons.mpr ⟨okM154, List.forall_mem_cons.mpr ⟨okM155, List.forall_mem_cons.mpr ⟨okM156, List.forall_mem_cons.mpr ⟨okM157, List.forall_mem_cons.mpr ⟨okM158, List.forall_mem_cons.mpr ⟨okM159, fun _ h => absurd h List.not_mem_nil⟩⟩⟩⟩⟩⟩⟩⟩⟩⟩⟩⟩⟩⟩⟩⟩⟩⟩⟩⟩
theorem okM_8 : ∀ k ∈ ([160, 161, 162, 163, 164, 165, 166, 167, 168, 169, 170, 171, 172, 173, 174, 175, 176, 177, 178, 179] : List Nat), OKM k := List.forall_mem_cons.mpr ⟨okM160, List.forall_mem_cons.mpr ⟨okM161, List.forall_mem_cons.mpr ⟨okM162, List.forall_mem_cons.mpr ⟨okM163, List.forall_mem_cons.mpr ⟨okM164, List.forall_mem_cons.mpr ⟨okM165, List.forall_mem_cons.mpr ⟨okM166, List.forall_mem_cons.mpr ⟨okM167, List.forall_mem_cons.mpr ⟨okM168, List.forall_mem_cons.mpr ⟨okM169, List.forall_mem_cons.mpr ⟨okM170, List.forall_mem_cons.mpr ⟨okM171, List.forall_mem_cons.mpr ⟨okM172, List.forall_mem_cons.mpr ⟨okM173, List.forall_mem_cons.mpr ⟨okM174, List.forall_mem_cons.mpr ⟨okM175, List.forall_mem_cons.mpr ⟨okM176, List.forall_mem_cons.mpr ⟨okM177, List.forall_mem_cons.mpr ⟨okM178, List.forall_mem_cons.mpr ⟨okM179, fun _ h => absurd h List.not_mem_nil⟩⟩⟩⟩⟩⟩⟩⟩⟩⟩⟩⟩⟩⟩⟩⟩⟩⟩⟩⟩
theorem okM_9 : ∀ k ∈ ([180, 181, 182, 183, 184, 185, 186, 187, 188, 189, 190, 191, 192, 193, 194, 195, 196, 197, 198, 199] : List Nat), OKM k := List.forall_mem_cons.mpr ⟨okM180, List.forall_mem_cons.mpr ⟨okM181, List.forall_mem_cons.mpr ⟨okM182, List.forall_mem_cons.mpr ⟨okM183, List.forall_mem_cons.mpr ⟨okM184, List.forall_mem_cons.mpr ⟨okM185, List.forall_mem_cons.mpr ⟨okM186, List.forall_mem_cons.mpr ⟨okM187, List.forall_mem_cons.mpr ⟨okM188, List.forall_mem_cons.mpr ⟨okM189, List.forall_mem_cons.mpr ⟨okM190, List.forall_mem_cons.mpr ⟨okM191, List.forall_mem_cons.mpr ⟨okM192, List.forall_mem_cons.mpr ⟨okM193, List.forall_mem_cons.mpr ⟨okM194, List.forall_mem_cons.mpr ⟨okM195, List.forall_mem_cons.mpr ⟨okM196, List.forall_mem_cons.mpr ⟨okM197, List.forall_mem_cons.mpr ⟨okM198, List.forall_mem_cons.mpr ⟨okM199, fun _ h => absurd h List.not_mem_nil⟩⟩⟩⟩⟩⟩⟩⟩⟩⟩⟩⟩⟩⟩⟩⟩⟩⟩⟩⟩
theorem okM_10 : ∀ k ∈ ([200, 201, 202, 203, 204, 205, 206, 207, 208, 209, 210, 211, 212, 213, 214, 215, 216, 217, 218, 219] : List Nat), OKM k := List.forall_mem_cons.mpr ⟨okM200, List.forall_mem_cons.mpr ⟨okM201, List.forall_mem_cons.mpr ⟨okM202, List.forall_mem_cons.mpr ⟨okM203, List.forall_mem_cons.mpr ⟨okM204, List.forall_mem_cons.mpr ⟨okM205, List.forall_mem_cons.mpr ⟨okM206, List.forall_mem_cons.mpr ⟨okM207, List.forall_mem_cons.mpr ⟨okM208, List.forall_mem_cons.mpr ⟨okM209, List.forall_mem_cons.mpr ⟨okM210, List.forall_mem_cons.mpr ⟨okM211, List.forall_mem_cons.mpr ⟨okM212, List.forall_mem_cons.mpr ⟨okM213, List.forall_mem_cons.mpr ⟨okM214, List.forall_mem_cons.mpr ⟨okM215, List.forall_mem_cons.mpr ⟨okM216, List.forall_mem_cons.mpr ⟨okM217, List.forall_mem_cons.mpr ⟨okM218, List.forall_mem_cons.mpr ⟨okM219, fun _ h => absurd h List.not_mem_nil⟩⟩⟩⟩⟩⟩⟩⟩⟩⟩⟩⟩⟩⟩⟩⟩⟩⟩⟩⟩
theorem okM_11 : ∀ k ∈ ([220, 221, 222, 223, 224, 225, 226, 227, 228, 229, 230, 231, 232, 233, 234, 235, 236, 237, 238, 239] : List Nat), OKM k := List.forall_mem_cons.mpr ⟨okM220, List.forall_mem_cons.mpr ⟨okM221, List.forall_mem_cons.mpr ⟨okM222, List.forall_mem_cons.mpr ⟨okM223, List.forall_mem_cons.mpr ⟨okM224, List.forall_mem_cons.mpr ⟨okM225, List.forall_mem_cons.mpr ⟨okM226, List.forall_mem_cons.mpr ⟨okM227, List.forall_mem_cons.mpr ⟨okM228, List.forall_mem_cons.mpr ⟨okM229, List.forall_mem_cons.mpr ⟨okM230, List.forall_mem_cons.mpr ⟨okM231, List.forall_mem_cons.mpr ⟨okM232, List.forall_mem_cons.mpr ⟨okM233, List.forall_mem_cons.mpr ⟨okM234, List.forall_mem_cons.mpr ⟨okM235, List.forall_mem_cons.mpr ⟨okM236, List.forall_mem_cons.mpr ⟨okM237, List.forall_mem_cons.mpr ⟨okM238, List.forall_mem_cons.mpr ⟨okM239, fun _ h => absurd h List.not_mem_nil⟩⟩⟩⟩⟩⟩⟩⟩⟩⟩⟩⟩⟩⟩⟩⟩⟩⟩⟩⟩
theorem okM_12 : ∀ k ∈ ([240, 241, 242, 243, 244, 245, 246, 247, 248, 249, 250, 251, 252, 253, 254, 255, 256, 257, 258, 259] : List Nat), OKM k := List.forall_mem_cons.mpr ⟨okM240, List.forall_mem_cons.mpr ⟨okM241, List.forall_mem_cons.mpr ⟨okM242, List.forall_mem_cons.mpr ⟨okM243, List.forall_mem_cons.mpr ⟨okM244, List.forall_mem_cons.mpr ⟨okM245, List.forall_mem_cons.mpr ⟨okM246, List.forall_mem_cons.mpr ⟨okM247, List.forall_mem_cons.mpr ⟨okM248, List.forall_mem_cons.mpr ⟨okM249, List.forall_mem_cons.mpr ⟨okM250, List.forall_mem_cons.mpr ⟨okM251, List.forall_mem_cons.mpr ⟨okM252, List.forall_mem_cons.mpr ⟨okM253, List.forall_mem_cons.mpr ⟨okM254, List.forall_mem_cons.mpr ⟨okM255, List.forall_mem_cons.mpr ⟨okM256, List.forall_mem_cons.mpr ⟨okM257, List.forall_mem_cons.mpr ⟨okM258, List.forall_mem_cons.mpr ⟨okM259, fun _ h => absurd h List.not_mem_nil⟩⟩⟩⟩⟩⟩⟩⟩⟩⟩⟩⟩⟩⟩⟩⟩⟩⟩⟩⟩
theorem okM_13 : ∀ k ∈ ([260, 261, 262, 263, 264, 265, 266, 267, 268, 269, 270, 271, 272, 273, 274, 275, 276, 277, 278, 279] : List Nat), OKM k := List.forall_mem_cons.mpr ⟨okM260, List.forall_mem_cons.mpr ⟨okM261, List.forall_mem_cons.mpr ⟨okM262, List.forall_mem_cons.mpr ⟨okM263, List.forall_mem_cons.mpr ⟨okM264, List.forall_mem_cons.mpr ⟨okM265, List.forall_mem_cons.mpr ⟨okM266, List.forall_mem_cons.mpr ⟨okM267, List.forall_mem_cons.mpr ⟨okM268, List.forall_mem_cons.mpr ⟨okM269, List.forall_mem_cons.mpr ⟨okM270, List.forall_mem_cons.mpr ⟨okM271, List.forall_mem_cons.mpr ⟨okM272, List.forall_mem_cons.mpr ⟨okM273, List.forall_mem_cons.mpr ⟨okM274, List.forall_mem_cons.mpr ⟨okM275, List.forall_mem_cons.mpr ⟨okM276, List.forall_mem_cons.mpr ⟨okM277, List.forall_mem_cons.mpr ⟨okM278, List.forall_mem_cons.mpr ⟨okM279, fun _ h => absurd h List.not_mem_nil⟩⟩⟩⟩⟩⟩⟩⟩⟩⟩⟩⟩⟩⟩⟩⟩⟩⟩⟩⟩
theorem okM_14 : ∀ k ∈ ([280, 281, 282, 283, 284, 285, 286, 287, 288, 289, 290, 291] : List Nat), OKM k := List.forall_mem_cons.mpr ⟨okM280, List.forall_mem_cons.mpr ⟨okM281, List.forall_mem_cons.mpr ⟨okM282, List.forall_mem_cons.mpr ⟨okM283, List.forall_mem_cons.mpr ⟨okM284, List.forall_mem_cons.mpr ⟨okM285, List.forall_mem_cons.mpr ⟨okM286, List.forall_mem_cons.mpr ⟨okM287, List.forall_mem_cons.mpr ⟨okM288, List.forall_mem_cons.mpr ⟨okM289, List.forall_mem_cons.mpr ⟨okM290, List.forall_mem_cons.mpr ⟨okM291, fun _ h => absurd h List.not_mem_nil⟩⟩⟩⟩⟩⟩⟩⟩⟩⟩⟩⟩
theorem okM : ∀ k, k < 292 → OKM k := by
  intro k hk
  rcases (show k < 20 ∨ (20 ≤ k ∧ k < 40) ∨ (40 ≤ k ∧ k < 60) ∨ (60 ≤ k ∧ k < 80) ∨ (80 ≤ k ∧ k < 100) ∨ (100 ≤ k ∧ k < 120) ∨ (120 ≤ k ∧ k < 140) ∨ (140 ≤ k ∧ k < 160) ∨ (160 ≤ k ∧ k < 180) ∨ (180 ≤ k ∧ k < 200) ∨ (200 ≤ k ∧ k < 220) ∨ (220 ≤ k ∧ k < 240) ∨ (240 ≤ k ∧ k < 260) ∨ (260 ≤ k ∧ k < 280) ∨ (280 ≤ k ∧ k < 292) by omega) with h | h | h | h | h | h | h | h | h | h | h | h | h | h | h
  · exact okM_0 k (by simp only [List.mem_cons, List.not_mem_nil, or_false]; omega)
  · exact okM_1 k (by simp only [List.mem_cons, List.not_mem_nil, or_false]; omega)
  · exact okM_2 k (by simp only [List.mem_cons, List.not_mem_nil, or_false]; omega)
  · exact okM_3 k (by simp only [List.mem_cons, List.not_mem_nil, or_false]; omega)
  · exact okM_4 k (by simp only [List.mem_cons, List.not_mem_nil, or_false]; omega)
  · exact okM_5 k (by simp only [List.mem_cons, List.not_mem_nil, or_false]; omega)
  · exact okM_6 k (by simp only [List.mem_cons, List.not_mem_nil, or_false]; omega)
  · exact okM_7 k (by simp only [List.mem_cons, List.not_mem_nil, or_false]; omega)
  · exact okM_8 k (by simp only [List.mem_cons, List.not_mem_nil, or_false]; omega)
  · exact okM_9 k (by simp only [List.mem_cons, List.not_mem_nil, or_false]; omega)
  · exact okM_10 k (by simp only [List.mem_cons, List.not_mem_nil, or_false]; omega)
  · exact okM_11 k (by simp only [List.mem_cons, List.not_mem_nil, or_false]; omega)
  · exact okM_12 k (by simp only [List.mem_cons, List.not_mem_nil, or_false]; omega)
  · exact okM_13 k (by simp only [List.mem_cons, List.not_mem_nil, or_false]; omega)
  · exact okM_14 k (by simp only [List.mem_cons, List.not_mem_nil, or_false]; omega)
abbrev prmN (y : MethodName) (n : Nat) : Prop := (parseMethodDescriptor y.desc).map (fun d => d.parameters.length) = some n
/-- what stands behind a call's link -/
def OKC (w n : Nat) (q : Nat × Nat × Nat × Nat) : Prop :=
  (q.1 = 0 ∧ q.2.1 < 292 ∧ q.2.2.2 < 14 ∧ Cond.methodLink (oS w) n (mtA q.2.1).1 ∈ lw_all ∧ Cond.instanceMethod (mtA q.2.1).1 ∈ lw_all ∧ Cond.selects (CI q.2.2.2).1 (mtA q.2.1).1 (mtA q.2.1).1 ∈ lw_all ∧ ∃ j, q.2.2.1 = j + 1 ∧ prmN (mtA q.2.1).1 j) ∨
  (q.1 = 1 ∧ q.2.1 < 292 ∧ Cond.methodLink (oS w) n (mtA q.2.1).1 ∈ lw_all ∧ Cond.static (mtA q.2.1).1 ∈ lw_all ∧ prmN (mtA q.2.1).1 q.2.2.1) ∨
  (q.1 = 2 ∧ q.2.1 < 292 ∧ q.2.2.2 < 14 ∧ (mtA q.2.1).1.name = "<init>" ∧ (mtA q.2.1).2.2.1 = none ∧ (mtA q.2.1).2.2.2 = [] ∧ Cond.methodLink (oS w) n (mtA q.2.1).1 ∈ lw_all ∧ Cond.instanceMethod (mtA q.2.1).1 ∈ lw_all ∧ ∃ j, q.2.2.1 = j + 1 ∧ prmN (mtA q.2.1).1 j) ∨
  (q.1 = 3 ∧ q.2.1 < 292 ∧ q.2.2.2 < 14 ∧ (∃ host, Cond.methodLinkNest (oS w) n (mtA q.2.1).1 host ∈ lw_tbl) ∧ Cond.instanceMethod (mtA q.2.1).1 ∈ lw_all ∧ Cond.selects (CI q.2.2.2).1 (mtA q.2.1).1 (mtA q.2.1).1 ∈ lw_all ∧ ∃ j, q.2.2.1 = j + 1 ∧ prmN (mtA q.2.1).1 j) ∨
  (q.1 = 4 ∧ q.2.1 < 292 ∧ q.2.2.2 < 14 ∧ (mtA q.2.1).1.name = "<init>" ∧ (mtA q.2.1).2.2.1 = none ∧ (mtA q.2.1).2.2.2 = [] ∧ (∃ host, Cond.methodLinkNest (oS w) n (mtA q.2.1).1 host ∈ lw_tbl) ∧ Cond.instanceMethod (mtA q.2.1).1 ∈ lw_all ∧ ∃ j, q.2.2.1 = j + 1 ∧ prmN (mtA q.2.1).1 j) ∨
  (q.1 = 10 ∧ Cond.methodLink (oS w) n objectInit ∈ lw_all) ∨
  (q.1 = 11 ∧ Cond.methodLink (oS w) n arraycopyName ∈ lw_all) ∨
  (q.1 = 12 ∧ (q.2.2.2 = 0 ∨ q.2.2.2 = 11 ∨ q.2.2.2 = 12 ∨ q.2.2.2 = 13) ∧ Cond.methodLink (oS w) n ⟨(CI q.2.2.2).1, "<init>", "(Ljava/lang/String;)V"⟩ ∈ lw_all) ∨
  (q.1 = 13 ∧ Cond.methodLink (oS w) n yJ6_length ∈ lw_all) ∨
  (q.1 = 14 ∧ Cond.methodLink (oS w) n yJ6_charAt ∈ lw_all) ∨
  (q.1 = 15 ∧ Cond.methodLink (oS w) n Lib.Math.max.name ∈ lw_all) ∨
  (q.1 = 16 ∧ Cond.methodLink (oS w) n Lib.Math.min.name ∈ lw_all)
theorem okC0_7 : OKC 0 7 (0, 14, 6, 1) := Or.inl ⟨rfl, by decide, by decide, q1297, q1298, q1299, 5, rfl, by decide +kernel⟩
theorem okC0_15 : OKC 0 15 (0, 15, 2, 1) := Or.inl ⟨rfl, by decide, by decide, q1322, q1323, q1324, 1, rfl, by decide +kernel⟩
theorem okC0_21 : OKC 0 21 (0, 17, 2, 1) := Or.inl ⟨rfl, by decide, by decide, q1349, q1350, q1351, 1, rfl, by decide +kernel⟩
theorem okC0_27 : OKC 0 27 (0, 19, 1, 1) := Or.inl ⟨rfl, by decide, by decide, q1365, q1366, q1367, 0, rfl, by decide +kernel⟩
theorem okC0_31 : OKC 0 31 (0, 20, 3, 1) := Or.inl ⟨rfl, by decide, by decide, q1401, q1402, q1403, 2, rfl, by decide +kernel⟩
theorem okC0_37 : OKC 0 37 (0, 22, 1, 1) := Or.inl ⟨rfl, by decide, by decide, q1430, q1431, q1432, 0, rfl, by decide +kernel⟩
theorem okC0_40 : OKC 0 40 (0, 23, 3, 1) := Or.inl ⟨rfl, by decide, by decide, q1437, q1438, q1439, 2, rfl, by decide +kernel⟩
theorem okC0_44 : OKC 0 44 (0, 24, 1, 1) := Or.inl ⟨rfl, by decide, by decide, q1446, q1447, q1448, 0, rfl, by decide +kernel⟩
theorem okC0_47 : OKC 0 47 (0, 26, 2, 1) := Or.inl ⟨rfl, by decide, by decide, q1474, q1475, q1476, 1, rfl, by decide +kernel⟩
theorem okC0_51 : OKC 0 51 (0, 27, 1, 1) := Or.inl ⟨rfl, by decide, by decide, q1487, q1488, q1489, 0, rfl, by decide +kernel⟩
theorem okC0_54 : OKC 0 54 (2, 10, 1, 1) := Or.inr (Or.inr (Or.inl ⟨rfl, by decide, by decide, rfl, rfl, rfl, q194, q195, 0, rfl, by decide +kernel⟩))
theorem okC0_57 : OKC 0 57 (2, 182, 1, 10) := Or.inr (Or.inr (Or.inl ⟨rfl, by decide, by decide, rfl, rfl, rfl, q1494, q1495, 0, rfl, by decide +kernel⟩))
theorem okC0_58 : OKC 0 58 (1, 0, 7, 0) := Or.inr (Or.inl ⟨rfl, by decide, q1293, q1294, by decide +kernel⟩)
theorem okC0_63 : OKC 0 63 (0, 275, 6, 10) := Or.inl ⟨rfl, by decide, by decide, q2147, q2148, q2149, 5, rfl, by decide +kernel⟩
theorem okC0_64 : OKC 0 64 (0, 183, 1, 10) := Or.inl ⟨rfl, by decide, by decide, q1776, q1777, q1778, 0, rfl, by decide +kernel⟩
theorem okC0_67 : OKC 0 67 (1, 1, 2, 0) := Or.inr (Or.inl ⟨rfl, by decide, q1318, q1319, by decide +kernel⟩)
theorem okC0_70 : OKC 0 70 (0, 276, 2, 10) := Or.inl ⟨rfl, by decide, by decide, q2151, q2152, q2153, 1, rfl, by decide +kernel⟩
theorem okC0_71 : OKC 0 71 (0, 11, 1, 1) := Or.inl ⟨rfl, by decide, by decide, q632, q633, q634, 0, rfl, by decide +kernel⟩
theorem okC0_74 : OKC 0 74 (0, 184, 1, 10) := Or.inl ⟨rfl, by decide, by decide, q1780, q1781, q1782, 0, rfl, by decide +kernel⟩
theorem okC0_75 : OKC 0 75 (0, 13, 1, 1) := Or.inl ⟨rfl, by decide, by decide, q1289, q1290, q1291, 0, rfl, by decide +kernel⟩
theorem okC0_78 : OKC 0 78 (0, 277, 1, 10) := Or.inl ⟨rfl, by decide, by decide, q2155, q2156, q2157, 0, rfl, by decide +kernel⟩
theorem okC0_79 : OKC 0 79 (1, 2, 3, 0) := Or.inr (Or.inl ⟨rfl, by decide, q1345, q1346, by decide +kernel⟩)
theorem okC0_82 : OKC 0 82 (0, 278, 2, 10) := Or.inl ⟨rfl, by decide, by decide, q2159, q2160, q2161, 1, rfl, by decide +kernel⟩
theorem okC0_83 : OKC 0 83 (1, 3, 2, 0) := Or.inr (Or.inl ⟨rfl, by decide, q1362, q1363, by decide +kernel⟩)
theorem okC0_86 : OKC 0 86 (0, 279, 1, 10) := Or.inl ⟨rfl, by decide, by decide, q2163, q2164, q2165, 0, rfl, by decide +kernel⟩
theorem okC0_87 : OKC 0 87 (1, 4, 4, 0) := Or.inr (Or.inl ⟨rfl, by decide, q1374, q1375, by decide +kernel⟩)
theorem okC0_90 : OKC 0 90 (0, 282, 3, 10) := Or.inl ⟨rfl, by decide, by decide, q2175, q2176, q2177, 2, rfl, by decide +kernel⟩
theorem okC0_91 : OKC 0 91 (1, 5, 1, 0) := Or.inr (Or.inl ⟨rfl, by decide, q1427, q1428, by decide +kernel⟩)
theorem okC0_94 : OKC 0 94 (0, 285, 1, 10) := Or.inl ⟨rfl, by decide, by decide, q2187, q2188, q2189, 0, rfl, by decide +kernel⟩
theorem okC0_95 : OKC 0 95 (1, 6, 3, 0) := Or.inr (Or.inl ⟨rfl, by decide, q1434, q1435, by decide +kernel⟩)
theorem okC0_98 : OKC 0 98 (0, 286, 3, 10) := Or.inl ⟨rfl, by decide, by decide, q2191, q2192, q2193, 2, rfl, by decide +kernel⟩
theorem okC0_99 : OKC 0 99 (1, 7, 2, 0) := Or.inr (Or.inl ⟨rfl, by decide, q1443, q1444, by decide +kernel⟩)
theorem okC0_101 : OKC 0 101 (0, 287, 1, 10) := Or.inl ⟨rfl, by decide, by decide, q2195, q2196, q2197, 0, rfl, by decide +kernel⟩
theorem okC0_102 : OKC 0 102 (1, 8, 3, 0) := Or.inr (Or.inl ⟨rfl, by decide, q1471, q1472, by decide +kernel⟩)
theorem okC0_104 : OKC 0 104 (0, 289, 2, 10) := Or.inl ⟨rfl, by decide, by decide, q2203, q2204, q2205, 1, rfl, by decide +kernel⟩
theorem okC0_105 : OKC 0 105 (1, 9, 2, 0) := Or.inr (Or.inl ⟨rfl, by decide, q1484, q1485, by decide +kernel⟩)
theorem okC0_107 : OKC 0 107 (0, 290, 1, 10) := Or.inl ⟨rfl, by decide, by decide, q2207, q2208, q2209, 0, rfl, by decide +kernel⟩
theorem okCl0 : ∀ e ∈ mLs 0, OKC 0 e.1 e.2 := List.forall_mem_cons.mpr ⟨okC0_7, List.forall_mem_cons.mpr ⟨okC0_15, List.forall_mem_cons.mpr ⟨okC0_21, List.forall_mem_cons.mpr ⟨okC0_27, List.forall_mem_cons.mpr ⟨okC0_31, List.forall_mem_cons.mpr ⟨okC0_37, List.forall_mem_cons.mpr ⟨okC0_40, List.forall_mem_cons.mpr ⟨okC0_44, List.forall_mem_cons.mpr ⟨okC0_47, List.forall_mem_cons.mpr ⟨okC0_51, List.forall_mem_cons.mpr ⟨okC0_54, List.forall_mem_cons.mpr ⟨okC0_57, List.forall_mem_cons.mpr ⟨okC0_58, List.forall_mem_cons.mpr ⟨okC0_63, List.forall_mem_cons.mpr ⟨okC0_64, List.forall_mem_cons.mpr ⟨okC0_67, List.forall_mem_cons.mpr ⟨okC0_70, List.forall_mem_cons.mpr ⟨okC0_71, List.forall_mem_cons.mpr ⟨okC0_74, List.forall_mem_cons.mpr ⟨okC0_75, List.forall_mem_cons.mpr ⟨okC0_78, List.forall_mem_cons.mpr ⟨okC0_79, List.forall_mem_cons.mpr ⟨okC0_82, List.forall_mem_cons.mpr ⟨okC0_83, List.forall_mem_cons.mpr ⟨okC0_86, List.forall_mem_cons.mpr ⟨okC0_87, List.forall_mem_cons.mpr ⟨okC0_90, List.forall_mem_cons.mpr ⟨okC0_91, List.forall_mem_cons.mpr ⟨okC0_94, List.forall_mem_cons.mpr ⟨okC0_95, List.forall_mem_cons.mpr ⟨okC0_98, List.forall_mem_cons.mpr ⟨okC0_99, List.forall_mem_cons.mpr ⟨okC0_101, List.forall_mem_cons.mpr ⟨okC0_102, List.forall_mem_cons.mpr ⟨okC0_104, List.forall_mem_cons.mpr ⟨okC0_105, List.forall_mem_cons.mpr ⟨okC0_107, fun _ h => absurd h List.not_mem_nil⟩⟩⟩⟩⟩⟩⟩⟩⟩⟩⟩⟩⟩⟩⟩⟩⟩⟩⟩⟩⟩⟩⟩⟩⟩⟩⟩⟩⟩⟩⟩⟩⟩⟩⟩⟩⟩
theorem okC1_1 : OKC 1 1 (10, 0, 1, 0) := Or.inr (Or.inr (Or.inr (Or.inr (Or.inr (Or.inl ⟨rfl, q197⟩)))))
theorem okC1_9 : OKC 1 9 (4, 28, 1, 2) := Or.inr (Or.inr (Or.inr (Or.inr (Or.inl ⟨rfl, by decide, by decide, rfl, rfl, rfl, ⟨_, q202⟩, q203, 0, rfl, by decide +kernel⟩))))
theorem okC1_18 : OKC 1 18 (2, 46, 2, 3) := Or.inr (Or.inr (Or.inl ⟨rfl, by decide, by decide, rfl, rfl, rfl, q344, q345, 1, rfl, by decide +kernel⟩))
theorem okC1_27 : OKC 1 27 (2, 94, 2, 5) := Or.inr (Or.inr (Or.inl ⟨rfl, by decide, by decide, rfl, rfl, rfl, q404, q405, 1, rfl, by decide +kernel⟩))
theorem okC1_37 : OKC 1 37 (4, 176, 1, 9) := Or.inr (Or.inr (Or.inr (Or.inr (Or.inl ⟨rfl, by decide, by decide, rfl, rfl, rfl, ⟨_, q591⟩, q592, 0, rfl, by decide +kernel⟩))))
theorem okC1_50 : OKC 1 50 (12, 0, 2, 0) := Or.inr (Or.inr (Or.inr (Or.inr (Or.inr (Or.inr (Or.inr (Or.inl ⟨rfl, by decide, q1358⟩)))))))
theorem okC1_57 : OKC 1 57 (12, 0, 2, 12) := Or.inr (Or.inr (Or.inr (Or.inr (Or.inr (Or.inr (Or.inr (Or.inl ⟨rfl, by decide, q1339⟩)))))))
theorem okC1_58 : OKC 1 58 (0, 18, 1, 1) := Or.inl ⟨rfl, by decide, by decide, q1353, q1355, qs81, 0, rfl, by decide +kernel⟩
theorem okC1_75 : OKC 1 75 (12, 0, 2, 13) := Or.inr (Or.inr (Or.inr (Or.inr (Or.inr (Or.inr (Or.inr (Or.inl ⟨rfl, by decide, q1419⟩)))))))
theorem okC1_84 : OKC 1 84 (12, 0, 2, 11) := Or.inr (Or.inr (Or.inr (Or.inr (Or.inr (Or.inr (Or.inr (Or.inl ⟨rfl, by decide, q1312⟩)))))))
theorem okC1_89 : OKC 1 89 (1, 16, 1, 0) := Or.inr (Or.inl ⟨rfl, by decide, q1326, q1327, by decide +kernel⟩)
theorem okC1_97 : OKC 1 97 (0, 47, 2, 3) := Or.inl ⟨rfl, by decide, by decide, q641, q642, q643, 1, rfl, by decide +kernel⟩
theorem okC1_101 : OKC 1 101 (0, 95, 1, 5) := Or.inl ⟨rfl, by decide, by decide, q1004, q1005, q1006, 0, rfl, by decide +kernel⟩
theorem okC1_110 : OKC 1 110 (0, 12, 1, 1) := Or.inl ⟨rfl, by decide, by decide, q637, q639, qs1, 0, rfl, by decide +kernel⟩
theorem okC1_111 : OKC 1 111 (0, 177, 2, 9) := Or.inl ⟨rfl, by decide, by decide, q1285, q1286, q1287, 1, rfl, by decide +kernel⟩
theorem okC1_118 : OKC 1 118 (0, 130, 1, 6) := Or.inl ⟨rfl, by decide, by decide, q1359, q776, q777, 0, rfl, by decide +kernel⟩
theorem okC1_136 : OKC 1 136 (3, 99, 2, 5) := Or.inr (Or.inr (Or.inr (Or.inl ⟨rfl, by decide, by decide, ⟨_, q1360⟩, q1041, qs50, 1, rfl, by decide +kernel⟩)))
theorem okC1_142 : OKC 1 142 (0, 127, 3, 5) := Or.inl ⟨rfl, by decide, by decide, q1369, q1370, q1371, 2, rfl, by decide +kernel⟩
theorem okC1_146 : OKC 1 146 (0, 21, 2, 1) := Or.inl ⟨rfl, by decide, by decide, q1405, q1407, qs82, 1, rfl, by decide +kernel⟩
theorem okC1_150 : OKC 1 150 (0, 115, 2, 5) := Or.inl ⟨rfl, by decide, by decide, q1422, q1114, q1115, 1, rfl, by decide +kernel⟩
theorem okC1_153 : OKC 1 153 (0, 105, 2, 5) := Or.inl ⟨rfl, by decide, by decide, q1423, q1068, q1069, 1, rfl, by decide +kernel⟩
theorem okC1_156 : OKC 1 156 (0, 136, 3, 6) := Or.inl ⟨rfl, by decide, by decide, q1424, q833, q834, 2, rfl, by decide +kernel⟩
theorem okC1_159 : OKC 1 159 (0, 106, 2, 5) := Or.inl ⟨rfl, by decide, by decide, q1425, q1072, q1073, 1, rfl, by decide +kernel⟩
theorem okC1_163 : OKC 1 163 (0, 112, 2, 5) := Or.inl ⟨rfl, by decide, by decide, q1426, q1097, q1098, 1, rfl, by decide +kernel⟩
theorem okC1_166 : OKC 1 166 (0, 178, 2, 9) := Or.inl ⟨rfl, by decide, by decide, q1454, q1455, q1456, 1, rfl, by decide +kernel⟩
theorem okC1_169 : OKC 1 169 (0, 89, 2, 4) := Or.inl ⟨rfl, by decide, by decide, q1441, q785, q786, 1, rfl, by decide +kernel⟩
theorem okC1_175 : OKC 1 175 (0, 116, 2, 5) := Or.inl ⟨rfl, by decide, by decide, q1442, q1122, q1123, 1, rfl, by decide +kernel⟩
theorem okC1_181 : OKC 1 181 (0, 25, 1, 1) := Or.inl ⟨rfl, by decide, by decide, q1450, q1452, qs83, 0, rfl, by decide +kernel⟩
theorem okC1_183 : OKC 1 183 (0, 180, 2, 9) := Or.inl ⟨rfl, by decide, by decide, q1467, q1468, q1469, 1, rfl, by decide +kernel⟩
theorem okC1_189 : OKC 1 189 (0, 181, 3, 9) := Or.inl ⟨rfl, by decide, by decide, q1478, q1479, q1480, 2, rfl, by decide +kernel⟩
theorem okC1_193 : OKC 1 193 (0, 179, 2, 9) := Or.inl ⟨rfl, by decide, by decide, q1491, q1464, q1465, 1, rfl, by decide +kernel⟩
theorem okCl1 : ∀ e ∈ mLs 1, OKC 1 e.1 e.2 := List.forall_mem_cons.mpr ⟨okC1_1, List.forall_mem_cons.mpr ⟨okC1_9, List.forall_mem_cons.mpr ⟨okC1_18, List.forall_mem_cons.mpr ⟨okC1_27, List.forall_mem_cons.mpr ⟨okC1_37, List.forall_mem_cons.mpr ⟨okC1_50, List.forall_mem_cons.mpr ⟨okC1_57, List.forall_mem_cons.mpr ⟨okC1_58, List.forall_mem_cons.mpr ⟨okC1_75, List.forall_mem_cons.mpr ⟨okC1_84, List.forall_mem_cons.mpr ⟨okC1_89, List.forall_mem_cons.mpr ⟨okC1_97, List.forall_mem_cons.mpr ⟨okC1_101, List.forall_mem_cons.mpr ⟨okC1_110, List.forall_mem_cons.mpr ⟨okC1_111, List.forall_mem_cons.mpr ⟨okC1_118, List.forall_mem_cons.mpr ⟨okC1_136, List.forall_mem_cons.mpr ⟨okC1_142, List.forall_mem_cons.mpr ⟨okC1_146, List.forall_mem_cons.mpr ⟨okC1_150, List.forall_mem_cons.mpr ⟨okC1_153, List.forall_mem_cons.mpr ⟨okC1_156, List.forall_mem_cons.mpr ⟨okC1_159, List.forall_mem_cons.mpr ⟨okC1_163, List.forall_mem_cons.mpr ⟨okC1_166, List.forall_mem_cons.mpr ⟨okC1_169, List.forall_mem_cons.mpr ⟨okC1_175, List.forall_mem_cons.mpr ⟨okC1_181, List.forall_mem_cons.mpr ⟨okC1_183, List.forall_mem_cons.mpr ⟨okC1_189, List.forall_mem_cons.mpr ⟨okC1_193, fun _ h => absurd h List.not_mem_nil⟩⟩⟩⟩⟩⟩⟩⟩⟩⟩⟩⟩⟩⟩⟩⟩⟩⟩⟩⟩⟩⟩⟩⟩⟩⟩⟩⟩⟩⟩⟩
theorem okC2_3 : OKC 2 3 (10, 0, 1, 0) := Or.inr (Or.inr (Or.inr (Or.inr (Or.inr (Or.inl ⟨rfl, q205⟩)))))
theorem okC2_57 : OKC 2 57 (12, 0, 2, 0) := Or.inr (Or.inr (Or.inr (Or.inr (Or.inr (Or.inr (Or.inr (Or.inl ⟨rfl, by decide, q270⟩)))))))
theorem okC2_79 : OKC 2 79 (0, 30, 1, 2) := Or.inl ⟨rfl, by decide, by decide, q657, q658, q659, 0, rfl, by decide +kernel⟩
theorem okC2_85 : OKC 2 85 (1, 34, 1, 0) := Or.inr (Or.inl ⟨rfl, by decide, q673, q674, by decide +kernel⟩)
theorem okC2_89 : OKC 2 89 (1, 36, 1, 0) := Or.inr (Or.inl ⟨rfl, by decide, q679, q680, by decide +kernel⟩)
theorem okC2_92 : OKC 2 92 (0, 32, 2, 2) := Or.inl ⟨rfl, by decide, by decide, q665, q667, qs4, 1, rfl, by decide +kernel⟩
theorem okC2_96 : OKC 2 96 (0, 33, 3, 2) := Or.inl ⟨rfl, by decide, by decide, q669, q670, q671, 2, rfl, by decide +kernel⟩
theorem okC2_100 : OKC 2 100 (0, 31, 1, 2) := Or.inl ⟨rfl, by decide, by decide, q661, q663, qs3, 0, rfl, by decide +kernel⟩
theorem okC2_109 : OKC 2 109 (1, 35, 1, 0) := Or.inr (Or.inl ⟨rfl, by decide, q676, q677, by decide +kernel⟩)
theorem okC2_112 : OKC 2 112 (0, 37, 1, 2) := Or.inl ⟨rfl, by decide, by decide, q682, q684, qs5, 0, rfl, by decide +kernel⟩
theorem okC2_116 : OKC 2 116 (0, 38, 1, 2) := Or.inl ⟨rfl, by decide, by decide, q734, q736, qs6, 0, rfl, by decide +kernel⟩
theorem okC2_120 : OKC 2 120 (0, 39, 1, 2) := Or.inl ⟨rfl, by decide, by decide, q738, q740, qs7, 0, rfl, by decide +kernel⟩
theorem okC2_123 : OKC 2 123 (0, 42, 2, 2) := Or.inl ⟨rfl, by decide, by decide, q751, q753, qs9, 1, rfl, by decide +kernel⟩
theorem okC2_127 : OKC 2 127 (13, 0, 1, 0) := Or.inr (Or.inr (Or.inr (Or.inr (Or.inr (Or.inr (Or.inr (Or.inr (Or.inl ⟨rfl, q686⟩))))))))
theorem okC2_129 : OKC 2 129 (14, 0, 2, 0) := Or.inr (Or.inr (Or.inr (Or.inr (Or.inr (Or.inr (Or.inr (Or.inr (Or.inr (Or.inl ⟨rfl, q696⟩)))))))))
theorem okC2_141 : OKC 2 141 (1, 40, 1, 0) := Or.inr (Or.inl ⟨rfl, by decide, q743, q744, by decide +kernel⟩)
theorem okC2_144 : OKC 2 144 (0, 41, 3, 2) := Or.inl ⟨rfl, by decide, by decide, q746, q748, qs8, 2, rfl, by decide +kernel⟩
theorem okC2_150 : OKC 2 150 (1, 43, 1, 0) := Or.inr (Or.inl ⟨rfl, by decide, q755, q756, by decide +kernel⟩)
theorem okCl2 : ∀ e ∈ mLs 2, OKC 2 e.1 e.2 := List.forall_mem_cons.mpr ⟨okC2_3, List.forall_mem_cons.mpr ⟨okC2_57, List.forall_mem_cons.mpr ⟨okC2_79, List.forall_mem_cons.mpr ⟨okC2_85, List.forall_mem_cons.mpr ⟨okC2_89, List.forall_mem_cons.mpr ⟨okC2_92, List.forall_mem_cons.mpr ⟨okC2_96, List.forall_mem_cons.mpr ⟨okC2_100, List.forall_mem_cons.mpr ⟨okC2_109, List.forall_mem_cons.mpr ⟨okC2_112, List.forall_mem_cons.mpr ⟨okC2_116, List.forall_mem_cons.mpr ⟨okC2_120, List.forall_mem_cons.mpr ⟨okC2_123, List.forall_mem_cons.mpr ⟨okC2_127, List.forall_mem_cons.mpr ⟨okC2_129, List.forall_mem_cons.mpr ⟨okC2_141, List.forall_mem_cons.mpr ⟨okC2_144, List.forall_mem_cons.mpr ⟨okC2_150, fun _ h => absurd h List.not_mem_nil⟩⟩⟩⟩⟩⟩⟩⟩⟩⟩⟩⟩⟩⟩⟩⟩⟩⟩
theorem okC3_3 : OKC 3 3 (10, 0, 1, 0) := Or.inr (Or.inr (Or.inr (Or.inr (Or.inr (Or.inl ⟨rfl, q347⟩)))))
theorem okC3_11 : OKC 3 11 (4, 88, 1, 4) := Or.inr (Or.inr (Or.inr (Or.inr (Or.inl ⟨rfl, by decide, by decide, rfl, rfl, rfl, ⟨_, q350⟩, q351, 0, rfl, by decide +kernel⟩))))
theorem okC3_31 : OKC 3 31 (0, 33, 3, 2) := Or.inl ⟨rfl, by decide, by decide, q766, q670, q671, 2, rfl, by decide +kernel⟩
theorem okC3_37 : OKC 3 37 (0, 50, 3, 3) := Or.inl ⟨rfl, by decide, by decide, q762, q764, qs11, 2, rfl, by decide +kernel⟩
theorem okC3_45 : OKC 3 45 (0, 49, 4, 3) := Or.inl ⟨rfl, by decide, by decide, q758, q760, qs10, 3, rfl, by decide +kernel⟩
theorem okC3_61 : OKC 3 61 (0, 89, 2, 4) := Or.inl ⟨rfl, by decide, by decide, q878, q785, q786, 1, rfl, by decide +kernel⟩
theorem okC3_65 : OKC 3 65 (16, 0, 2, 0) := Or.inr (Or.inr (Or.inr (Or.inr (Or.inr (Or.inr (Or.inr (Or.inr (Or.inr (Or.inr (Or.inr (⟨rfl, q925⟩)))))))))))
theorem okC3_71 : OKC 3 71 (0, 91, 3, 4) := Or.inl ⟨rfl, by decide, by decide, q844, q845, q846, 2, rfl, by decide +kernel⟩
theorem okC3_82 : OKC 3 82 (0, 30, 1, 2) := Or.inl ⟨rfl, by decide, by decide, q799, q658, q659, 0, rfl, by decide +kernel⟩
theorem okC3_85 : OKC 3 85 (0, 129, 1, 6) := Or.inl ⟨rfl, by decide, by decide, q645, q646, q647, 0, rfl, by decide +kernel⟩
theorem okC3_100 : OKC 3 100 (0, 48, 1, 3) := Or.inl ⟨rfl, by decide, by decide, q649, q651, qs2, 0, rfl, by decide +kernel⟩
theorem okC3_102 : OKC 3 102 (0, 29, 1, 2) := Or.inl ⟨rfl, by decide, by decide, q653, q654, q655, 0, rfl, by decide +kernel⟩
theorem okC3_105 : OKC 3 105 (0, 51, 1, 3) := Or.inl ⟨rfl, by decide, by decide, q767, q769, qs12, 0, rfl, by decide +kernel⟩
theorem okC3_116 : OKC 3 116 (0, 133, 5, 6) := Or.inl ⟨rfl, by decide, by decide, q820, q821, q822, 4, rfl, by decide +kernel⟩
theorem okC3_120 : OKC 3 120 (0, 90, 2, 4) := Or.inl ⟨rfl, by decide, by decide, q792, q793, q794, 1, rfl, by decide +kernel⟩
theorem okC3_123 : OKC 3 123 (0, 45, 2, 2) := Or.inl ⟨rfl, by decide, by decide, q804, q805, q806, 1, rfl, by decide +kernel⟩
theorem okC3_127 : OKC 3 127 (0, 54, 1, 3) := Or.inl ⟨rfl, by decide, by decide, q812, q814, qs16, 0, rfl, by decide +kernel⟩
theorem okC3_131 : OKC 3 131 (0, 44, 2, 2) := Or.inl ⟨rfl, by decide, by decide, q771, q772, q773, 1, rfl, by decide +kernel⟩
theorem okC3_137 : OKC 3 137 (0, 137, 2, 6) := Or.inl ⟨rfl, by decide, by decide, q840, q841, q842, 1, rfl, by decide +kernel⟩
theorem okC3_139 : OKC 3 139 (0, 53, 1, 3) := Or.inl ⟨rfl, by decide, by decide, q808, q810, qs15, 0, rfl, by decide +kernel⟩
theorem okC3_142 : OKC 3 142 (0, 55, 3, 3) := Or.inl ⟨rfl, by decide, by decide, q816, q818, qs17, 2, rfl, by decide +kernel⟩
theorem okC3_145 : OKC 3 145 (0, 56, 2, 3) := Or.inl ⟨rfl, by decide, by decide, q836, q838, qs18, 1, rfl, by decide +kernel⟩
theorem okC3_148 : OKC 3 148 (0, 130, 1, 6) := Or.inl ⟨rfl, by decide, by decide, q775, q776, q777, 0, rfl, by decide +kernel⟩
theorem okC3_151 : OKC 3 151 (0, 131, 4, 6) := Or.inl ⟨rfl, by decide, by decide, q779, q780, q781, 3, rfl, by decide +kernel⟩
theorem okC3_161 : OKC 3 161 (0, 52, 1, 3) := Or.inl ⟨rfl, by decide, by decide, q800, q802, qs14, 0, rfl, by decide +kernel⟩
theorem okC3_164 : OKC 3 164 (0, 57, 1, 3) := Or.inl ⟨rfl, by decide, by decide, q848, q850, qs19, 0, rfl, by decide +kernel⟩
theorem okC3_167 : OKC 3 167 (0, 87, 1, 3) := Or.inl ⟨rfl, by decide, by decide, q999, q1001, qs47, 0, rfl, by decide +kernel⟩
theorem okC3_170 : OKC 3 170 (0, 134, 2, 6) := Or.inl ⟨rfl, by decide, by decide, q877, q825, q826, 1, rfl, by decide +kernel⟩
theorem okC3_173 : OKC 3 173 (0, 139, 2, 6) := Or.inl ⟨rfl, by decide, by decide, q864, q865, q866, 1, rfl, by decide +kernel⟩
theorem okC3_176 : OKC 3 176 (0, 136, 3, 6) := Or.inl ⟨rfl, by decide, by decide, q1003, q833, q834, 2, rfl, by decide +kernel⟩
theorem okC3_179 : OKC 3 179 (0, 58, 1, 3) := Or.inl ⟨rfl, by decide, by decide, q852, q854, qs20, 0, rfl, by decide +kernel⟩
theorem okC3_182 : OKC 3 182 (0, 77, 1, 3) := Or.inl ⟨rfl, by decide, by decide, q955, q957, qs37, 0, rfl, by decide +kernel⟩
theorem okC3_188 : OKC 3 188 (0, 71, 1, 3) := Or.inl ⟨rfl, by decide, by decide, q928, q930, qs32, 0, rfl, by decide +kernel⟩
theorem okC3_191 : OKC 3 191 (0, 92, 1, 4) := Or.inl ⟨rfl, by decide, by decide, q914, q915, q916, 0, rfl, by decide +kernel⟩
theorem okC3_194 : OKC 3 194 (0, 70, 2, 3) := Or.inl ⟨rfl, by decide, by decide, q921, q923, qs31, 1, rfl, by decide +kernel⟩
theorem okC3_197 : OKC 3 197 (0, 76, 5, 3) := Or.inl ⟨rfl, by decide, by decide, q951, q953, qs36, 4, rfl, by decide +kernel⟩
theorem okC3_200 : OKC 3 200 (0, 84, 1, 3) := Or.inl ⟨rfl, by decide, by decide, q983, q985, qs44, 0, rfl, by decide +kernel⟩
theorem okC3_203 : OKC 3 203 (0, 138, 2, 6) := Or.inl ⟨rfl, by decide, by decide, q860, q861, q862, 1, rfl, by decide +kernel⟩
theorem okC3_205 : OKC 3 205 (0, 140, 2, 6) := Or.inl ⟨rfl, by decide, by decide, q869, q870, q871, 1, rfl, by decide +kernel⟩
theorem okC3_208 : OKC 3 208 (0, 59, 2, 3) := Or.inl ⟨rfl, by decide, by decide, q856, q858, qs21, 1, rfl, by decide +kernel⟩
theorem okC3_211 : OKC 3 211 (0, 60, 3, 3) := Or.inl ⟨rfl, by decide, by decide, q873, q875, qs22, 2, rfl, by decide +kernel⟩
theorem okC3_214 : OKC 3 214 (0, 61, 1, 3) := Or.inl ⟨rfl, by decide, by decide, q879, q881, qs23, 0, rfl, by decide +kernel⟩
theorem okC3_220 : OKC 3 220 (0, 141, 2, 6) := Or.inl ⟨rfl, by decide, by decide, q987, q988, q989, 1, rfl, by decide +kernel⟩
theorem okC3_223 : OKC 3 223 (0, 69, 1, 3) := Or.inl ⟨rfl, by decide, by decide, q910, q912, qs30, 0, rfl, by decide +kernel⟩
theorem okC3_226 : OKC 3 226 (0, 85, 3, 3) := Or.inl ⟨rfl, by decide, by decide, q991, q993, qs45, 2, rfl, by decide +kernel⟩
theorem okC3_229 : OKC 3 229 (0, 86, 1, 3) := Or.inl ⟨rfl, by decide, by decide, q995, q997, qs46, 0, rfl, by decide +kernel⟩
theorem okC3_238 : OKC 3 238 (0, 78, 1, 3) := Or.inl ⟨rfl, by decide, by decide, q959, q961, qs38, 0, rfl, by decide +kernel⟩
theorem okC3_241 : OKC 3 241 (0, 80, 2, 3) := Or.inl ⟨rfl, by decide, by decide, q967, q969, qs40, 1, rfl, by decide +kernel⟩
theorem okC3_244 : OKC 3 244 (0, 79, 4, 3) := Or.inl ⟨rfl, by decide, by decide, q963, q965, qs39, 3, rfl, by decide +kernel⟩
theorem okC3_247 : OKC 3 247 (0, 81, 1, 3) := Or.inl ⟨rfl, by decide, by decide, q971, q973, qs41, 0, rfl, by decide +kernel⟩
theorem okC3_250 : OKC 3 250 (0, 83, 1, 3) := Or.inl ⟨rfl, by decide, by decide, q979, q981, qs43, 0, rfl, by decide +kernel⟩
theorem okC3_252 : OKC 3 252 (0, 82, 2, 3) := Or.inl ⟨rfl, by decide, by decide, q975, q977, qs42, 1, rfl, by decide +kernel⟩
theorem okC3_255 : OKC 3 255 (0, 66, 2, 3) := Or.inl ⟨rfl, by decide, by decide, q898, q900, qs27, 1, rfl, by decide +kernel⟩
theorem okC3_258 : OKC 3 258 (1, 62, 1, 0) := Or.inr (Or.inl ⟨rfl, by decide, q883, q884, by decide +kernel⟩)
theorem okC3_261 : OKC 3 261 (0, 63, 3, 3) := Or.inl ⟨rfl, by decide, by decide, q886, q888, qs24, 2, rfl, by decide +kernel⟩
theorem okC3_264 : OKC 3 264 (0, 64, 1, 3) := Or.inl ⟨rfl, by decide, by decide, q890, q892, qs25, 0, rfl, by decide +kernel⟩
theorem okC3_267 : OKC 3 267 (0, 93, 1, 4) := Or.inl ⟨rfl, by decide, by decide, q936, q937, q938, 0, rfl, by decide +kernel⟩
theorem okC3_270 : OKC 3 270 (0, 73, 1, 3) := Or.inl ⟨rfl, by decide, by decide, q940, q942, qs34, 0, rfl, by decide +kernel⟩
theorem okC3_273 : OKC 3 273 (1, 74, 1, 0) := Or.inr (Or.inl ⟨rfl, by decide, q944, q945, by decide +kernel⟩)
theorem okC3_276 : OKC 3 276 (0, 75, 1, 3) := Or.inl ⟨rfl, by decide, by decide, q947, q949, qs35, 0, rfl, by decide +kernel⟩
theorem okC3_279 : OKC 3 279 (15, 0, 2, 0) := Or.inr (Or.inr (Or.inr (Or.inr (Or.inr (Or.inr (Or.inr (Or.inr (Or.inr (Or.inr (Or.inl ⟨rfl, q918⟩))))))))))
theorem okC3_282 : OKC 3 282 (0, 65, 3, 3) := Or.inl ⟨rfl, by decide, by decide, q894, q896, qs26, 2, rfl, by decide +kernel⟩
theorem okC3_284 : OKC 3 284 (0, 67, 2, 3) := Or.inl ⟨rfl, by decide, by decide, q902, q904, qs28, 1, rfl, by decide +kernel⟩
theorem okC3_287 : OKC 3 287 (0, 68, 1, 3) := Or.inl ⟨rfl, by decide, by decide, q906, q908, qs29, 0, rfl, by decide +kernel⟩
theorem okC3_290 : OKC 3 290 (0, 72, 1, 3) := Or.inl ⟨rfl, by decide, by decide, q932, q934, qs33, 0, rfl, by decide +kernel⟩
theorem okCl3 : ∀ e ∈ mLs 3, OKC 3 e.1 e.2 := List.forall_mem_cons.mpr ⟨okC3_3, List.forall_mem_cons.mpr ⟨okC3_11, List.forall_mem_cons.mpr ⟨okC3_31, List.forall_mem_cons.mpr ⟨okC3_37, List.forall_mem_cons.mpr ⟨okC3_45, List.forall_mem_cons.mpr ⟨okC3_61, List.forall_mem_cons.mpr ⟨okC3_65, List.forall_mem_cons.mpr ⟨okC3_71, List.forall_mem_cons.mpr ⟨okC3_82, List.forall_mem_cons.mpr ⟨okC3_85, List.forall_mem_cons.mpr ⟨okC3_100, List.forall_mem_cons.mpr ⟨okC3_102, List.forall_mem_cons.mpr ⟨okC3_105, List.forall_mem_cons.mpr ⟨okC3_116, List.forall_mem_cons.mpr ⟨okC3_120, List.forall_mem_cons.mpr ⟨okC3_123, List.forall_mem_cons.mpr ⟨okC3_127, List.forall_mem_cons.mpr ⟨okC3_131, List.forall_mem_cons.mpr ⟨okC3_137, List.forall_mem_cons.mpr ⟨okC3_139, List.forall_mem_cons.mpr ⟨okC3_142, List.forall_mem_cons.mpr ⟨okC3_145, List.forall_mem_cons.mpr ⟨okC3_148, List.forall_mem_cons.mpr ⟨okC3_151, List.forall_mem_cons.mpr ⟨okC3_161, List.forall_mem_cons.mpr ⟨okC3_164, List.forall_mem_cons.mpr ⟨okC3_167, List.forall_mem_cons.mpr ⟨okC3_170, List.forall_mem_cons.mpr ⟨okC3_173, List.forall_mem_cons.mpr ⟨okC3_176, List.forall_mem_cons.mpr ⟨okC3_179, List.forall_mem_cons.mpr ⟨okC3_182, List.forall_mem_cons.mpr ⟨okC3_188, List.forall_mem_cons.mpr ⟨okC3_191, List.forall_mem_cons.mpr ⟨okC3_194, List.forall_mem_cons.mpr ⟨okC3_197, List.forall_mem_cons.mpr ⟨okC3_200, List.forall_mem_cons.mpr ⟨okC3_203, List.forall_mem_cons.mpr ⟨okC3_205, List.forall_mem_cons.mpr ⟨okC3_208, List.forall_mem_cons.mpr ⟨okC3_211, List.forall_mem_cons.mpr ⟨okC3_214, List.forall_mem_cons.mpr ⟨okC3_220, List.forall_mem_cons.mpr ⟨okC3_223, List.forall_mem_cons.mpr ⟨okC3_226, List.forall_mem_cons.mpr ⟨okC3_229, List.forall_mem_cons.mpr ⟨okC3_238, List.forall_mem_cons.mpr ⟨okC3_241, List.forall_mem_cons.mpr ⟨okC3_244, List.forall_mem_cons.mpr ⟨okC3_247, List.forall_mem_cons.mpr ⟨okC3_250, List.forall_mem_cons.mpr ⟨okC3_252, List.forall_mem_cons.mpr ⟨okC3_255, List.forall_mem_cons.mpr ⟨okC3_258, List.forall_mem_cons.mpr ⟨okC3_261, List.forall_mem_cons.mpr ⟨okC3_264, List.forall_mem_cons.mpr ⟨okC3_267, List.forall_mem_cons.mpr ⟨okC3_270, List.forall_mem_cons.mpr ⟨okC3_273, List.forall_mem_cons.mpr ⟨okC3_276, List.forall_mem_cons.mpr ⟨okC3_279, List.forall_mem_cons.mpr ⟨okC3_282, List.forall_mem_cons.mpr ⟨okC3_284, List.forall_mem_cons.mpr ⟨okC3_287, List.forall_mem_cons.mpr ⟨okC3_290, fun _ h => absurd h List.not_mem_nil⟩⟩⟩⟩⟩⟩⟩⟩⟩⟩⟩⟩⟩⟩⟩⟩⟩⟩⟩⟩⟩⟩⟩⟩⟩⟩⟩⟩⟩⟩⟩⟩⟩⟩⟩⟩⟩⟩⟩⟩⟩⟩⟩⟩⟩⟩⟩⟩⟩⟩⟩⟩⟩⟩⟩⟩⟩⟩⟩⟩⟩⟩⟩⟩⟩
theorem okC4_1 : OKC 4 1 (10, 0, 1, 0) := Or.inr (Or.inr (Or.inr (Or.inr (Or.inr (Or.inl ⟨rfl, q353⟩)))))
theorem okC4_17 : OKC 4 17 (11, 0, 5, 0) := Or.inr (Or.inr (Or.inr (Or.inr (Or.inr (Or.inr (Or.inl ⟨rfl, q796⟩))))))
theorem okCl4 : ∀ e ∈ mLs 4, OKC 4 e.1 e.2 := List.forall_mem_cons.mpr ⟨okC4_1, List.forall_mem_cons.mpr ⟨okC4_17, fun _ h => absurd h List.not_mem_nil⟩⟩
theorem okC5_3 : OKC 5 3 (10, 0, 1, 0) := Or.inr (Or.inr (Or.inr (Or.inr (Or.inr (Or.inl ⟨rfl, q407⟩)))))
theorem okC5_11 : OKC 5 11 (4, 128, 1, 6) := Or.inr (Or.inr (Or.inr (Or.inr (Or.inl ⟨rfl, by decide, by decide, rfl, rfl, rfl, ⟨_, q410⟩, q411, 0, rfl, by decide +kernel⟩))))
theorem okC5_20 : OKC 5 20 (4, 144, 1, 7) := Or.inr (Or.inr (Or.inr (Or.inr (Or.inl ⟨rfl, by decide, by decide, rfl, rfl, rfl, ⟨_, q454⟩, q455, 0, rfl, by decide +kernel⟩))))
theorem okC5_27 : OKC 5 27 (2, 153, 2, 8) := Or.inr (Or.inr (Or.inl ⟨rfl, by decide, by decide, rfl, rfl, rfl, q481, q482, 1, rfl, by decide +kernel⟩))
theorem okC5_36 : OKC 5 36 (4, 88, 1, 4) := Or.inr (Or.inr (Or.inr (Or.inr (Or.inl ⟨rfl, by decide, by decide, rfl, rfl, rfl, ⟨_, q499⟩, q351, 0, rfl, by decide +kernel⟩))))
theorem okC5_88 : OKC 5 88 (0, 130, 1, 6) := Or.inl ⟨rfl, by decide, by decide, q1012, q776, q777, 0, rfl, by decide +kernel⟩
theorem okC5_92 : OKC 5 92 (0, 89, 2, 4) := Or.inl ⟨rfl, by decide, by decide, q1024, q785, q786, 1, rfl, by decide +kernel⟩
theorem okC5_96 : OKC 5 96 (0, 33, 3, 2) := Or.inl ⟨rfl, by decide, by decide, q1047, q670, q671, 2, rfl, by decide +kernel⟩
theorem okC5_103 : OKC 5 103 (16, 0, 2, 0) := Or.inr (Or.inr (Or.inr (Or.inr (Or.inr (Or.inr (Or.inr (Or.inr (Or.inr (Or.inr (Or.inr (⟨rfl, q1023⟩)))))))))))
theorem okC5_113 : OKC 5 113 (0, 134, 2, 6) := Or.inl ⟨rfl, by decide, by decide, q1013, q825, q826, 1, rfl, by decide +kernel⟩
theorem okC5_116 : OKC 5 116 (0, 135, 2, 6) := Or.inl ⟨rfl, by decide, by decide, q1014, q829, q830, 1, rfl, by decide +kernel⟩
theorem okC5_119 : OKC 5 119 (0, 138, 2, 6) := Or.inl ⟨rfl, by decide, by decide, q1015, q861, q862, 1, rfl, by decide +kernel⟩
theorem okC5_125 : OKC 5 125 (0, 91, 3, 4) := Or.inl ⟨rfl, by decide, by decide, q1016, q845, q846, 2, rfl, by decide +kernel⟩
theorem okC5_129 : OKC 5 129 (0, 140, 2, 6) := Or.inl ⟨rfl, by decide, by decide, q1017, q870, q871, 1, rfl, by decide +kernel⟩
theorem okC5_133 : OKC 5 133 (0, 137, 2, 6) := Or.inl ⟨rfl, by decide, by decide, q1018, q841, q842, 1, rfl, by decide +kernel⟩
theorem okC5_136 : OKC 5 136 (1, 97, 2, 0) := Or.inr (Or.inl ⟨rfl, by decide, q1019, q1020, by decide +kernel⟩)
theorem okC5_139 : OKC 5 139 (0, 142, 2, 6) := Or.inl ⟨rfl, by decide, by decide, q1025, q1026, q1027, 1, rfl, by decide +kernel⟩
theorem okC5_142 : OKC 5 142 (0, 143, 2, 6) := Or.inl ⟨rfl, by decide, by decide, q1029, q1030, q1031, 1, rfl, by decide +kernel⟩
theorem okC5_148 : OKC 5 148 (0, 136, 3, 6) := Or.inl ⟨rfl, by decide, by decide, q1033, q833, q834, 2, rfl, by decide +kernel⟩
theorem okC5_151 : OKC 5 151 (0, 90, 2, 4) := Or.inl ⟨rfl, by decide, by decide, q1034, q793, q794, 1, rfl, by decide +kernel⟩
theorem okC5_154 : OKC 5 154 (0, 99, 2, 5) := Or.inl ⟨rfl, by decide, by decide, q1039, q1041, qs50, 1, rfl, by decide +kernel⟩
theorem okC5_157 : OKC 5 157 (0, 100, 3, 5) := Or.inl ⟨rfl, by decide, by decide, q1043, q1045, qs51, 2, rfl, by decide +kernel⟩
theorem okC5_161 : OKC 5 161 (15, 0, 2, 0) := Or.inr (Or.inr (Or.inr (Or.inr (Or.inr (Or.inr (Or.inr (Or.inr (Or.inr (Or.inr (Or.inl ⟨rfl, q1048⟩))))))))))
theorem okC5_166 : OKC 5 166 (0, 102, 4, 5) := Or.inl ⟨rfl, by decide, by decide, q1054, q1056, qs53, 3, rfl, by decide +kernel⟩
theorem okC5_170 : OKC 5 170 (0, 92, 1, 4) := Or.inl ⟨rfl, by decide, by decide, q1058, q915, q916, 0, rfl, by decide +kernel⟩
theorem okC5_173 : OKC 5 173 (0, 105, 2, 5) := Or.inl ⟨rfl, by decide, by decide, q1067, q1068, q1069, 1, rfl, by decide +kernel⟩
theorem okC5_184 : OKC 5 184 (0, 106, 2, 5) := Or.inl ⟨rfl, by decide, by decide, q1071, q1072, q1073, 1, rfl, by decide +kernel⟩
theorem okC5_190 : OKC 5 190 (0, 107, 4, 5) := Or.inl ⟨rfl, by decide, by decide, q1075, q1077, qs56, 3, rfl, by decide +kernel⟩
theorem okC5_194 : OKC 5 194 (0, 108, 4, 5) := Or.inl ⟨rfl, by decide, by decide, q1079, q1081, qs57, 3, rfl, by decide +kernel⟩
theorem okC5_197 : OKC 5 197 (0, 141, 2, 6) := Or.inl ⟨rfl, by decide, by decide, q1083, q988, q989, 1, rfl, by decide +kernel⟩
theorem okC5_200 : OKC 5 200 (0, 109, 3, 5) := Or.inl ⟨rfl, by decide, by decide, q1084, q1085, q1086, 2, rfl, by decide +kernel⟩
theorem okC5_203 : OKC 5 203 (0, 104, 2, 5) := Or.inl ⟨rfl, by decide, by decide, q1063, q1065, qs55, 1, rfl, by decide +kernel⟩
theorem okC5_210 : OKC 5 210 (0, 110, 2, 5) := Or.inl ⟨rfl, by decide, by decide, q1088, q1090, qs58, 1, rfl, by decide +kernel⟩
theorem okC5_213 : OKC 5 213 (0, 112, 2, 5) := Or.inl ⟨rfl, by decide, by decide, q1096, q1097, q1098, 1, rfl, by decide +kernel⟩
theorem okC5_214 : OKC 5 214 (0, 113, 2, 5) := Or.inl ⟨rfl, by decide, by decide, q1100, q1102, qs60, 1, rfl, by decide +kernel⟩
theorem okC5_219 : OKC 5 219 (0, 120, 2, 5) := Or.inl ⟨rfl, by decide, by decide, q1142, q1144, qs65, 1, rfl, by decide +kernel⟩
theorem okC5_223 : OKC 5 223 (0, 155, 3, 8) := Or.inl ⟨rfl, by decide, by decide, q1146, q1147, q1148, 2, rfl, by decide +kernel⟩
theorem okC5_227 : OKC 5 227 (0, 116, 2, 5) := Or.inl ⟨rfl, by decide, by decide, q1121, q1122, q1123, 1, rfl, by decide +kernel⟩
theorem okC5_230 : OKC 5 230 (0, 115, 2, 5) := Or.inl ⟨rfl, by decide, by decide, q1113, q1114, q1115, 1, rfl, by decide +kernel⟩
theorem okC5_231 : OKC 5 231 (0, 156, 4, 8) := Or.inl ⟨rfl, by decide, by decide, q1151, q1152, q1153, 3, rfl, by decide +kernel⟩
theorem okC5_235 : OKC 5 235 (0, 157, 3, 8) := Or.inl ⟨rfl, by decide, by decide, q1156, q1157, q1158, 2, rfl, by decide +kernel⟩
theorem okC5_238 : OKC 5 238 (0, 160, 1, 8) := Or.inl ⟨rfl, by decide, by decide, q1170, q1171, q1172, 0, rfl, by decide +kernel⟩
theorem okC5_241 : OKC 5 241 (0, 162, 2, 8) := Or.inl ⟨rfl, by decide, by decide, q1194, q1195, q1196, 1, rfl, by decide +kernel⟩
theorem okC5_244 : OKC 5 244 (0, 166, 2, 8) := Or.inl ⟨rfl, by decide, by decide, q1217, q1218, q1219, 1, rfl, by decide +kernel⟩
theorem okC5_247 : OKC 5 247 (0, 173, 1, 8) := Or.inl ⟨rfl, by decide, by decide, q1245, q1246, q1247, 0, rfl, by decide +kernel⟩
theorem okC5_250 : OKC 5 250 (0, 174, 2, 8) := Or.inl ⟨rfl, by decide, by decide, q1249, q1250, q1251, 1, rfl, by decide +kernel⟩
theorem okC5_253 : OKC 5 253 (0, 175, 2, 8) := Or.inl ⟨rfl, by decide, by decide, q1253, q1254, q1255, 1, rfl, by decide +kernel⟩
theorem okC5_256 : OKC 5 256 (0, 145, 1, 7) := Or.inl ⟨rfl, by decide, by decide, q1108, q1109, q1110, 0, rfl, by decide +kernel⟩
theorem okC5_262 : OKC 5 262 (0, 146, 1, 7) := Or.inl ⟨rfl, by decide, by decide, q1117, q1118, q1119, 0, rfl, by decide +kernel⟩
theorem okC5_265 : OKC 5 265 (0, 154, 1, 8) := Or.inl ⟨rfl, by decide, by decide, q1134, q1135, q1136, 0, rfl, by decide +kernel⟩
theorem okC5_266 : OKC 5 266 (0, 119, 4, 5) := Or.inl ⟨rfl, by decide, by decide, q1138, q1140, qs64, 3, rfl, by decide +kernel⟩
theorem okC5_269 : OKC 5 269 (0, 93, 1, 4) := Or.inl ⟨rfl, by decide, by decide, q1129, q937, q938, 0, rfl, by decide +kernel⟩
theorem okC5_272 : OKC 5 272 (0, 118, 2, 5) := Or.inl ⟨rfl, by decide, by decide, q1130, q1132, qs63, 1, rfl, by decide +kernel⟩
theorem okC5_275 : OKC 5 275 (0, 163, 1, 8) := Or.inl ⟨rfl, by decide, by decide, q1278, q1205, q1206, 0, rfl, by decide +kernel⟩
theorem okC5_281 : OKC 5 281 (0, 122, 4, 5) := Or.inl ⟨rfl, by decide, by decide, q1261, q1263, qs76, 3, rfl, by decide +kernel⟩
theorem okC5_284 : OKC 5 284 (0, 125, 4, 5) := Or.inl ⟨rfl, by decide, by decide, q1274, q1276, qs79, 3, rfl, by decide +kernel⟩
theorem okC5_286 : OKC 5 286 (0, 150, 3, 7) := Or.inl ⟨rfl, by decide, by decide, q1284, q1191, q1192, 2, rfl, by decide +kernel⟩
theorem okC5_296 : OKC 5 296 (0, 123, 3, 5) := Or.inl ⟨rfl, by decide, by decide, q1265, q1267, qs77, 2, rfl, by decide +kernel⟩
theorem okC5_297 : OKC 5 297 (0, 148, 3, 7) := Or.inl ⟨rfl, by decide, by decide, q1279, q1184, q1185, 2, rfl, by decide +kernel⟩
theorem okC5_300 : OKC 5 300 (0, 126, 2, 5) := Or.inl ⟨rfl, by decide, by decide, q1280, q1282, qs80, 1, rfl, by decide +kernel⟩
theorem okC5_303 : OKC 5 303 (0, 124, 2, 5) := Or.inl ⟨rfl, by decide, by decide, q1269, q1271, qs78, 1, rfl, by decide +kernel⟩
theorem okC5_306 : OKC 5 306 (0, 147, 4, 7) := Or.inl ⟨rfl, by decide, by decide, q1273, q1180, q1181, 3, rfl, by decide +kernel⟩
theorem okC5_309 : OKC 5 309 (0, 96, 1, 5) := Or.inl ⟨rfl, by decide, by decide, q1008, q1010, qs48, 0, rfl, by decide +kernel⟩
theorem okC5_311 : OKC 5 311 (0, 98, 1, 5) := Or.inl ⟨rfl, by decide, by decide, q1035, q1037, qs49, 0, rfl, by decide +kernel⟩
theorem okC5_314 : OKC 5 314 (0, 101, 1, 5) := Or.inl ⟨rfl, by decide, by decide, q1050, q1052, qs52, 0, rfl, by decide +kernel⟩
theorem okC5_316 : OKC 5 316 (0, 103, 1, 5) := Or.inl ⟨rfl, by decide, by decide, q1059, q1061, qs54, 0, rfl, by decide +kernel⟩
theorem okC5_318 : OKC 5 318 (0, 111, 1, 5) := Or.inl ⟨rfl, by decide, by decide, q1092, q1094, qs59, 0, rfl, by decide +kernel⟩
theorem okC5_321 : OKC 5 321 (0, 114, 1, 5) := Or.inl ⟨rfl, by decide, by decide, q1104, q1106, qs61, 0, rfl, by decide +kernel⟩
theorem okC5_324 : OKC 5 324 (0, 117, 1, 5) := Or.inl ⟨rfl, by decide, by decide, q1125, q1127, qs62, 0, rfl, by decide +kernel⟩
theorem okC5_326 : OKC 5 326 (0, 121, 1, 5) := Or.inl ⟨rfl, by decide, by decide, q1257, q1259, qs75, 0, rfl, by decide +kernel⟩
theorem okC5_328 : OKC 5 328 (0, 133, 5, 6) := Or.inl ⟨rfl, by decide, by decide, q1373, q821, q822, 4, rfl, by decide +kernel⟩
theorem okCl5 : ∀ e ∈ mLs 5, OKC 5 e.1 e.2 := List.forall_mem_cons.mpr ⟨okC5_3, List.forall_mem_cons.mpr ⟨okC5_11, List.forall_mem_cons.mpr ⟨okC5_20, List.forall_mem_cons.mpr ⟨okC5_27, List.forall_mem_cons.mpr ⟨okC5_36, List.forall_mem_cons.mpr ⟨okC5_88, List.forall_mem_cons.mpr ⟨okC5_92, List.forall_mem_cons.mpr ⟨okC5_96, List.forall_mem_cons.mpr ⟨okC5_103, List.forall_mem_cons.mpr ⟨okC5_113, List.forall_mem_cons.mpr ⟨okC5_116, List.forall_mem_cons.mpr ⟨okC5_119, List.forall_mem_cons.mpr ⟨okC5_125, List.forall_mem_cons.mpr ⟨okC5_129, List.forall_mem_cons.mpr ⟨okC5_133, List.forall_mem_cons.mpr ⟨okC5_136, List.forall_mem_cons.mpr ⟨okC5_139, List.forall_mem_cons.mpr ⟨okC5_142, List.forall_mem_cons.mpr ⟨okC5_148, List.forall_mem_cons.mpr ⟨okC5_151, List.forall_mem_cons.mpr ⟨okC5_154, List.forall_mem_cons.mpr ⟨okC5_157, List.forall_mem_cons.mpr ⟨okC5_161, List.forall_mem_cons.mpr ⟨okC5_166, List.forall_mem_cons.mpr ⟨okC5_170, List.forall_mem_cons.mpr ⟨okC5_173, List.forall_mem_cons.mpr ⟨okC5_184, List.forall_mem_cons.mpr ⟨okC5_190, List.forall_mem_cons.mpr ⟨okC5_194, List.forall_mem_cons.mpr ⟨okC5_197, List.forall_mem_cons.mpr ⟨okC5_200, List.forall_mem_cons.mpr ⟨okC5_203, List.forall_mem_cons.mpr ⟨okC5_210, List.forall_mem_cons.mpr ⟨okC5_213, List.forall_mem_cons.mpr ⟨okC5_214, List.forall_mem_cons.mpr ⟨okC5_219, List.forall_mem_cons.mpr ⟨okC5_223, List.forall_mem_cons.mpr ⟨okC5_227, List.forall_mem_cons.mpr ⟨okC5_230, List.forall_mem_cons.mpr ⟨okC5_231, List.forall_mem_cons.mpr ⟨okC5_235, List.forall_mem_cons.mpr ⟨okC5_238, List.forall_mem_cons.mpr ⟨okC5_241, List.forall_mem_cons.mpr ⟨okC5_244, List.forall_mem_cons.mpr ⟨okC5_247, List.forall_mem_cons.mpr ⟨okC5_250, List.forall_mem_cons.mpr ⟨okC5_253, List.forall_mem_cons.mpr ⟨okC5_256, List.forall_mem_cons.mpr ⟨okC5_262, List.forall_mem_cons.mpr ⟨okC5_265, List.forall_mem_cons.mpr ⟨okC5_266, List.forall_mem_cons.mpr ⟨okC5_269, List.forall_mem_cons.mpr ⟨okC5_272, List.forall_mem_cons.mpr ⟨okC5_275, List.forall_mem_cons.mpr ⟨okC5_281, List.forall_mem_cons.mpr ⟨okC5_284, List.forall_mem_cons.mpr ⟨okC5_286, List.forall_mem_cons.mpr ⟨okC5_296, List.forall_mem_cons.mpr ⟨okC5_297, List.forall_mem_cons.mpr ⟨okC5_300, List.forall_mem_cons.mpr ⟨okC5_303, List.forall_mem_cons.mpr ⟨okC5_306, List.forall_mem_cons.mpr ⟨okC5_309, List.forall_mem_cons.mpr ⟨okC5_311, List.forall_mem_cons.mpr ⟨okC5_314, List.forall_mem_cons.mpr ⟨okC5_316, List.forall_mem_cons.mpr ⟨okC5_318, List.forall_mem_cons.mpr ⟨okC5_321, List.forall_mem_cons.mpr ⟨okC5_324, List.forall_mem_cons.mpr ⟨okC5_326, List.forall_mem_cons.mpr ⟨okC5_328, fun _ h => absurd h List.not_mem_nil⟩⟩⟩⟩⟩⟩⟩⟩⟩⟩⟩⟩⟩⟩⟩⟩⟩⟩⟩⟩⟩⟩⟩⟩⟩⟩⟩⟩⟩⟩⟩⟩⟩⟩⟩⟩⟩⟩⟩⟩⟩⟩⟩⟩⟩⟩⟩⟩⟩⟩⟩⟩⟩⟩⟩⟩⟩⟩⟩⟩⟩⟩⟩⟩⟩⟩⟩⟩⟩⟩⟩
theorem okC6_3 : OKC 6 3 (10, 0, 1, 0) := Or.inr (Or.inr (Or.inr (Or.inr (Or.inr (Or.inl ⟨rfl, q413⟩)))))
theorem okC6_11 : OKC 6 11 (4, 88, 1, 4) := Or.inr (Or.inr (Or.inr (Or.inr (Or.inl ⟨rfl, by decide, by decide, rfl, rfl, rfl, ⟨_, q415⟩, q351, 0, rfl, by decide +kernel⟩))))
theorem okC6_42 : OKC 6 42 (0, 89, 2, 4) := Or.inl ⟨rfl, by decide, by decide, q784, q785, q786, 1, rfl, by decide +kernel⟩
theorem okC6_46 : OKC 6 46 (0, 130, 1, 6) := Or.inl ⟨rfl, by decide, by decide, q783, q776, q777, 0, rfl, by decide +kernel⟩
theorem okC6_50 : OKC 6 50 (0, 134, 2, 6) := Or.inl ⟨rfl, by decide, by decide, q824, q825, q826, 1, rfl, by decide +kernel⟩
theorem okC6_53 : OKC 6 53 (0, 136, 3, 6) := Or.inl ⟨rfl, by decide, by decide, q832, q833, q834, 2, rfl, by decide +kernel⟩
theorem okC6_57 : OKC 6 57 (0, 138, 2, 6) := Or.inl ⟨rfl, by decide, by decide, q868, q861, q862, 1, rfl, by decide +kernel⟩
theorem okC6_60 : OKC 6 60 (0, 135, 2, 6) := Or.inl ⟨rfl, by decide, by decide, q828, q829, q830, 1, rfl, by decide +kernel⟩
theorem okC6_63 : OKC 6 63 (0, 132, 5, 6) := Or.inl ⟨rfl, by decide, by decide, q788, q790, qs13, 4, rfl, by decide +kernel⟩
theorem okCl6 : ∀ e ∈ mLs 6, OKC 6 e.1 e.2 := List.forall_mem_cons.mpr ⟨okC6_3, List.forall_mem_cons.mpr ⟨okC6_11, List.forall_mem_cons.mpr ⟨okC6_42, List.forall_mem_cons.mpr ⟨okC6_46, List.forall_mem_cons.mpr ⟨okC6_50, List.forall_mem_cons.mpr ⟨okC6_53, List.forall_mem_cons.mpr ⟨okC6_57, List.forall_mem_cons.mpr ⟨okC6_60, List.forall_mem_cons.mpr ⟨okC6_63, fun _ h => absurd h List.not_mem_nil⟩⟩⟩⟩⟩⟩⟩⟩⟩
theorem okC7_3 : OKC 7 3 (10, 0, 1, 0) := Or.inr (Or.inr (Or.inr (Or.inr (Or.inr (Or.inl ⟨rfl, q457⟩)))))
theorem okC7_29 : OKC 7 29 (0, 148, 3, 7) := Or.inl ⟨rfl, by decide, by decide, q1183, q1184, q1185, 2, rfl, by decide +kernel⟩
theorem okC7_33 : OKC 7 33 (1, 149, 2, 0) := Or.inr (Or.inl ⟨rfl, by decide, q1187, q1188, by decide +kernel⟩)
theorem okC7_36 : OKC 7 36 (0, 150, 3, 7) := Or.inl ⟨rfl, by decide, by decide, q1190, q1191, q1192, 2, rfl, by decide +kernel⟩
theorem okC7_39 : OKC 7 39 (0, 147, 4, 7) := Or.inl ⟨rfl, by decide, by decide, q1202, q1180, q1181, 3, rfl, by decide +kernel⟩
theorem okCl7 : ∀ e ∈ mLs 7, OKC 7 e.1 e.2 := List.forall_mem_cons.mpr ⟨okC7_3, List.forall_mem_cons.mpr ⟨okC7_29, List.forall_mem_cons.mpr ⟨okC7_33, List.forall_mem_cons.mpr ⟨okC7_36, List.forall_mem_cons.mpr ⟨okC7_39, fun _ h => absurd h List.not_mem_nil⟩⟩⟩⟩⟩
theorem okC8_3 : OKC 8 3 (10, 0, 1, 0) := Or.inr (Or.inr (Or.inr (Or.inr (Or.inr (Or.inl ⟨rfl, q484⟩)))))
theorem okC8_11 : OKC 8 11 (4, 88, 1, 4) := Or.inr (Or.inr (Or.inr (Or.inr (Or.inl ⟨rfl, by decide, by decide, rfl, rfl, rfl, ⟨_, q486⟩, q351, 0, rfl, by decide +kernel⟩))))
theorem okC8_29 : OKC 8 29 (0, 93, 1, 4) := Or.inl ⟨rfl, by decide, by decide, q1178, q937, q938, 0, rfl, by decide +kernel⟩
theorem okC8_33 : OKC 8 33 (0, 89, 2, 4) := Or.inl ⟨rfl, by decide, by decide, q1155, q785, q786, 1, rfl, by decide +kernel⟩
theorem okC8_37 : OKC 8 37 (0, 92, 1, 4) := Or.inl ⟨rfl, by decide, by decide, q1168, q915, q916, 0, rfl, by decide +kernel⟩
theorem okC8_40 : OKC 8 40 (0, 91, 3, 4) := Or.inl ⟨rfl, by decide, by decide, q1169, q845, q846, 2, rfl, by decide +kernel⟩
theorem okC8_44 : OKC 8 44 (0, 90, 2, 4) := Or.inl ⟨rfl, by decide, by decide, q1150, q793, q794, 1, rfl, by decide +kernel⟩
theorem okC8_47 : OKC 8 47 (0, 158, 2, 8) := Or.inl ⟨rfl, by decide, by decide, q1160, q1162, qs66, 1, rfl, by decide +kernel⟩
theorem okC8_50 : OKC 8 50 (0, 159, 3, 8) := Or.inl ⟨rfl, by decide, by decide, q1164, q1166, qs67, 2, rfl, by decide +kernel⟩
theorem okC8_53 : OKC 8 53 (0, 161, 1, 8) := Or.inl ⟨rfl, by decide, by decide, q1174, q1175, q1176, 0, rfl, by decide +kernel⟩
theorem okC8_56 : OKC 8 56 (0, 150, 3, 7) := Or.inl ⟨rfl, by decide, by decide, q1208, q1191, q1192, 2, rfl, by decide +kernel⟩
theorem okC8_62 : OKC 8 62 (0, 164, 1, 8) := Or.inl ⟨rfl, by decide, by decide, q1209, q1211, qs68, 0, rfl, by decide +kernel⟩
theorem okC8_65 : OKC 8 65 (0, 151, 3, 7) := Or.inl ⟨rfl, by decide, by decide, q1198, q1199, q1200, 2, rfl, by decide +kernel⟩
theorem okC8_68 : OKC 8 68 (0, 148, 3, 7) := Or.inl ⟨rfl, by decide, by decide, q1203, q1184, q1185, 2, rfl, by decide +kernel⟩
theorem okC8_71 : OKC 8 71 (0, 163, 1, 8) := Or.inl ⟨rfl, by decide, by decide, q1204, q1205, q1206, 0, rfl, by decide +kernel⟩
theorem okC8_74 : OKC 8 74 (0, 165, 2, 8) := Or.inl ⟨rfl, by decide, by decide, q1213, q1214, q1215, 1, rfl, by decide +kernel⟩
theorem okC8_78 : OKC 8 78 (0, 147, 4, 7) := Or.inl ⟨rfl, by decide, by decide, q1179, q1180, q1181, 3, rfl, by decide +kernel⟩
theorem okC8_82 : OKC 8 82 (0, 167, 1, 8) := Or.inl ⟨rfl, by decide, by decide, q1221, q1223, qs69, 0, rfl, by decide +kernel⟩
theorem okC8_85 : OKC 8 85 (0, 168, 2, 8) := Or.inl ⟨rfl, by decide, by decide, q1225, q1227, qs70, 1, rfl, by decide +kernel⟩
theorem okC8_88 : OKC 8 88 (0, 169, 2, 8) := Or.inl ⟨rfl, by decide, by decide, q1229, q1231, qs71, 1, rfl, by decide +kernel⟩
theorem okC8_91 : OKC 8 91 (0, 171, 2, 8) := Or.inl ⟨rfl, by decide, by decide, q1237, q1239, qs73, 1, rfl, by decide +kernel⟩
theorem okC8_95 : OKC 8 95 (0, 170, 2, 8) := Or.inl ⟨rfl, by decide, by decide, q1233, q1235, qs72, 1, rfl, by decide +kernel⟩
theorem okC8_98 : OKC 8 98 (0, 172, 1, 8) := Or.inl ⟨rfl, by decide, by decide, q1241, q1243, qs74, 0, rfl, by decide +kernel⟩
theorem okCl8 : ∀ e ∈ mLs 8, OKC 8 e.1 e.2 := List.forall_mem_cons.mpr ⟨okC8_3, List.forall_mem_cons.mpr ⟨okC8_11, List.forall_mem_cons.mpr ⟨okC8_29, List.forall_mem_cons.mpr ⟨okC8_33, List.forall_mem_cons.mpr ⟨okC8_37, List.forall_mem_cons.mpr ⟨okC8_40, List.forall_mem_cons.mpr ⟨okC8_44, List.forall_mem_cons.mpr ⟨okC8_47, List.forall_mem_cons.mpr ⟨okC8_50, List.forall_mem_cons.mpr ⟨okC8_53, List.forall_mem_cons.mpr ⟨okC8_56, List.forall_mem_cons.mpr ⟨okC8_62, List.forall_mem_cons.mpr ⟨okC8_65, List.forall_mem_cons.mpr ⟨okC8_68, List.forall_mem_cons.mpr ⟨okC8_71, List.forall_mem_cons.mpr ⟨okC8_74, List.forall_mem_cons.mpr ⟨okC8_78, List.forall_mem_cons.mpr ⟨okC8_82, List.forall_mem_cons.mpr ⟨okC8_85, List.forall_mem_cons.mpr ⟨okC8_88, List.forall_mem_cons.mpr ⟨okC8_91, List.forall_mem_cons.mpr ⟨okC8_95, List.forall_mem_cons.mpr ⟨okC8_98, fun _ h => absurd h List.not_mem_nil⟩⟩⟩⟩⟩⟩⟩⟩⟩⟩⟩⟩⟩⟩⟩⟩⟩⟩⟩⟩⟩⟩⟩
theorem okC9_3 : OKC 9 3 (10, 0, 1, 0) := Or.inr (Or.inr (Or.inr (Or.inr (Or.inr (Or.inl ⟨rfl, q594⟩)))))
theorem okC9_27 : OKC 9 27 (0, 89, 2, 4) := Or.inl ⟨rfl, by decide, by decide, q1458, q785, q786, 1, rfl, by decide +kernel⟩
theorem okC9_47 : OKC 9 47 (0, 152, 2, 7) := Or.inl ⟨rfl, by decide, by decide, q1459, q1460, q1461, 1, rfl, by decide +kernel⟩
theorem okC9_55 : OKC 9 55 (0, 179, 2, 9) := Or.inl ⟨rfl, by decide, by decide, q1463, q1464, q1465, 1, rfl, by decide +kernel⟩
theorem okC9_70 : OKC 9 70 (0, 115, 2, 5) := Or.inl ⟨rfl, by decide, by decide, q1482, q1114, q1115, 1, rfl, by decide +kernel⟩
theorem okC9_76 : OKC 9 76 (0, 116, 2, 5) := Or.inl ⟨rfl, by decide, by decide, q1483, q1122, q1123, 1, rfl, by decide +kernel⟩
theorem okCl9 : ∀ e ∈ mLs 9, OKC 9 e.1 e.2 := List.forall_mem_cons.mpr ⟨okC9_3, List.forall_mem_cons.mpr ⟨okC9_27, List.forall_mem_cons.mpr ⟨okC9_47, List.forall_mem_cons.mpr ⟨okC9_55, List.forall_mem_cons.mpr ⟨okC9_70, List.forall_mem_cons.mpr ⟨okC9_76, fun _ h => absurd h List.not_mem_nil⟩⟩⟩⟩⟩⟩
theorem okC10_1 : OKC 10 1 (10, 0, 1, 0) := Or.inr (Or.inr (Or.inr (Or.inr (Or.inr (Or.inl ⟨rfl, q1497⟩)))))
theorem okC10_199 : OKC 10 199 (1, 190, 1, 0) := Or.inr (Or.inl ⟨rfl, by decide, q1804, q1805, by decide +kernel⟩)
theorem okC10_203 : OKC 10 203 (1, 192, 1, 0) := Or.inr (Or.inl ⟨rfl, by decide, q1810, q1811, by decide +kernel⟩)
theorem okC10_206 : OKC 10 206 (0, 188, 2, 10) := Or.inl ⟨rfl, by decide, by decide, q1796, q1798, qs87, 1, rfl, by decide +kernel⟩
theorem okC10_213 : OKC 10 213 (1, 197, 1, 0) := Or.inr (Or.inl ⟨rfl, by decide, q1831, q1832, by decide +kernel⟩)
theorem okC10_222 : OKC 10 222 (0, 196, 5, 10) := Or.inl ⟨rfl, by decide, by decide, q1827, q1829, qs92, 4, rfl, by decide +kernel⟩
theorem okC10_228 : OKC 10 228 (1, 191, 1, 0) := Or.inr (Or.inl ⟨rfl, by decide, q1807, q1808, by decide +kernel⟩)
theorem okC10_234 : OKC 10 234 (0, 187, 2, 10) := Or.inl ⟨rfl, by decide, by decide, q1792, q1794, qs86, 1, rfl, by decide +kernel⟩
theorem okC10_237 : OKC 10 237 (0, 189, 4, 10) := Or.inl ⟨rfl, by decide, by decide, q1800, q1802, qs88, 3, rfl, by decide +kernel⟩
theorem okC10_241 : OKC 10 241 (0, 193, 3, 10) := Or.inl ⟨rfl, by decide, by decide, q1813, q1815, qs89, 2, rfl, by decide +kernel⟩
theorem okC10_245 : OKC 10 245 (0, 194, 2, 10) := Or.inl ⟨rfl, by decide, by decide, q1819, q1821, qs90, 1, rfl, by decide +kernel⟩
theorem okC10_248 : OKC 10 248 (0, 195, 3, 10) := Or.inl ⟨rfl, by decide, by decide, q1823, q1825, qs91, 2, rfl, by decide +kernel⟩
theorem okC10_251 : OKC 10 251 (1, 198, 2, 0) := Or.inr (Or.inl ⟨rfl, by decide, q1836, q1837, by decide +kernel⟩)
theorem okC10_254 : OKC 10 254 (1, 199, 1, 0) := Or.inr (Or.inl ⟨rfl, by decide, q1839, q1840, by decide +kernel⟩)
theorem okC10_266 : OKC 10 266 (0, 203, 3, 10) := Or.inl ⟨rfl, by decide, by decide, q1854, q1856, qs96, 2, rfl, by decide +kernel⟩
theorem okC10_270 : OKC 10 270 (0, 202, 1, 10) := Or.inl ⟨rfl, by decide, by decide, q1850, q1852, qs95, 0, rfl, by decide +kernel⟩
theorem okC10_273 : OKC 10 273 (0, 205, 2, 10) := Or.inl ⟨rfl, by decide, by decide, q1862, q1864, qs98, 1, rfl, by decide +kernel⟩
theorem okC10_279 : OKC 10 279 (0, 201, 2, 10) := Or.inl ⟨rfl, by decide, by decide, q1846, q1848, qs94, 1, rfl, by decide +kernel⟩
theorem okC10_283 : OKC 10 283 (0, 213, 1, 10) := Or.inl ⟨rfl, by decide, by decide, q1894, q1896, qs106, 0, rfl, by decide +kernel⟩
theorem okC10_286 : OKC 10 286 (0, 210, 1, 10) := Or.inl ⟨rfl, by decide, by decide, q1882, q1884, qs103, 0, rfl, by decide +kernel⟩
theorem okC10_290 : OKC 10 290 (1, 217, 1, 0) := Or.inr (Or.inl ⟨rfl, by decide, q1909, q1910, by decide +kernel⟩)
theorem okC10_293 : OKC 10 293 (0, 204, 2, 10) := Or.inl ⟨rfl, by decide, by decide, q1858, q1860, qs97, 1, rfl, by decide +kernel⟩
theorem okC10_296 : OKC 10 296 (0, 212, 1, 10) := Or.inl ⟨rfl, by decide, by decide, q1890, q1892, qs105, 0, rfl, by decide +kernel⟩
theorem okC10_299 : OKC 10 299 (1, 214, 1, 0) := Or.inr (Or.inl ⟨rfl, by decide, q1898, q1899, by decide +kernel⟩)
theorem okC10_302 : OKC 10 302 (0, 215, 1, 10) := Or.inl ⟨rfl, by decide, by decide, q1901, q1903, qs107, 0, rfl, by decide +kernel⟩
theorem okC10_305 : OKC 10 305 (0, 208, 2, 10) := Or.inl ⟨rfl, by decide, by decide, q1874, q1876, qs101, 1, rfl, by decide +kernel⟩
theorem okC10_308 : OKC 10 308 (0, 216, 1, 10) := Or.inl ⟨rfl, by decide, by decide, q1905, q1907, qs108, 0, rfl, by decide +kernel⟩
theorem okC10_311 : OKC 10 311 (0, 207, 1, 10) := Or.inl ⟨rfl, by decide, by decide, q1870, q1872, qs100, 0, rfl, by decide +kernel⟩
theorem okC10_314 : OKC 10 314 (0, 209, 1, 10) := Or.inl ⟨rfl, by decide, by decide, q1878, q1880, qs102, 0, rfl, by decide +kernel⟩
theorem okC10_317 : OKC 10 317 (0, 218, 1, 10) := Or.inl ⟨rfl, by decide, by decide, q1912, q1914, qs109, 0, rfl, by decide +kernel⟩
theorem okC10_320 : OKC 10 320 (0, 219, 1, 10) := Or.inl ⟨rfl, by decide, by decide, q1916, q1918, qs110, 0, rfl, by decide +kernel⟩
theorem okC10_323 : OKC 10 323 (0, 220, 1, 10) := Or.inl ⟨rfl, by decide, by decide, q1920, q1922, qs111, 0, rfl, by decide +kernel⟩
theorem okC10_326 : OKC 10 326 (0, 206, 1, 10) := Or.inl ⟨rfl, by decide, by decide, q1866, q1868, qs99, 0, rfl, by decide +kernel⟩
theorem okC10_329 : OKC 10 329 (0, 211, 1, 10) := Or.inl ⟨rfl, by decide, by decide, q1886, q1888, qs104, 0, rfl, by decide +kernel⟩
theorem okC10_332 : OKC 10 332 (0, 224, 3, 10) := Or.inl ⟨rfl, by decide, by decide, q1936, q1938, qs115, 2, rfl, by decide +kernel⟩
theorem okC10_342 : OKC 10 342 (0, 230, 4, 10) := Or.inl ⟨rfl, by decide, by decide, q1961, q1963, qs121, 3, rfl, by decide +kernel⟩
theorem okC10_355 : OKC 10 355 (0, 237, 1, 10) := Or.inl ⟨rfl, by decide, by decide, q1989, q1991, qs128, 0, rfl, by decide +kernel⟩
theorem okC10_358 : OKC 10 358 (0, 236, 1, 10) := Or.inl ⟨rfl, by decide, by decide, q1985, q1987, qs127, 0, rfl, by decide +kernel⟩
theorem okC10_361 : OKC 10 361 (0, 244, 2, 10) := Or.inl ⟨rfl, by decide, by decide, q2017, q2019, qs135, 1, rfl, by decide +kernel⟩
theorem okC10_365 : OKC 10 365 (0, 241, 4, 10) := Or.inl ⟨rfl, by decide, by decide, q2005, q2007, qs132, 3, rfl, by decide +kernel⟩
theorem okC10_371 : OKC 10 371 (0, 238, 1, 10) := Or.inl ⟨rfl, by decide, by decide, q1993, q1995, qs129, 0, rfl, by decide +kernel⟩
theorem okC10_374 : OKC 10 374 (0, 245, 2, 10) := Or.inl ⟨rfl, by decide, by decide, q2021, q2023, qs136, 1, rfl, by decide +kernel⟩
theorem okC10_377 : OKC 10 377 (0, 246, 1, 10) := Or.inl ⟨rfl, by decide, by decide, q2025, q2027, qs137, 0, rfl, by decide +kernel⟩
theorem okC10_383 : OKC 10 383 (0, 239, 1, 10) := Or.inl ⟨rfl, by decide, by decide, q1997, q1999, qs130, 0, rfl, by decide +kernel⟩
theorem okC10_386 : OKC 10 386 (0, 227, 2, 10) := Or.inl ⟨rfl, by decide, by decide, q1948, q1950, qs118, 1, rfl, by decide +kernel⟩
theorem okC10_390 : OKC 10 390 (0, 240, 2, 10) := Or.inl ⟨rfl, by decide, by decide, q2001, q2003, qs131, 1, rfl, by decide +kernel⟩
theorem okC10_394 : OKC 10 394 (0, 232, 2, 10) := Or.inl ⟨rfl, by decide, by decide, q1969, q1971, qs123, 1, rfl, by decide +kernel⟩
theorem okC10_397 : OKC 10 397 (0, 242, 2, 10) := Or.inl ⟨rfl, by decide, by decide, q2009, q2011, qs133, 1, rfl, by decide +kernel⟩
theorem okC10_400 : OKC 10 400 (0, 229, 2, 10) := Or.inl ⟨rfl, by decide, by decide, q1957, q1959, qs120, 1, rfl, by decide +kernel⟩
theorem okC10_403 : OKC 10 403 (0, 243, 2, 10) := Or.inl ⟨rfl, by decide, by decide, q2013, q2015, qs134, 1, rfl, by decide +kernel⟩
theorem okC10_408 : OKC 10 408 (0, 231, 2, 10) := Or.inl ⟨rfl, by decide, by decide, q1965, q1967, qs122, 1, rfl, by decide +kernel⟩
theorem okC10_411 : OKC 10 411 (0, 226, 1, 10) := Or.inl ⟨rfl, by decide, by decide, q1944, q1946, qs117, 0, rfl, by decide +kernel⟩
theorem okC10_414 : OKC 10 414 (0, 228, 3, 10) := Or.inl ⟨rfl, by decide, by decide, q1953, q1955, qs119, 2, rfl, by decide +kernel⟩
theorem okC10_417 : OKC 10 417 (0, 235, 2, 10) := Or.inl ⟨rfl, by decide, by decide, q1981, q1983, qs126, 1, rfl, by decide +kernel⟩
theorem okC10_420 : OKC 10 420 (0, 247, 1, 10) := Or.inl ⟨rfl, by decide, by decide, q2029, q2031, qs138, 0, rfl, by decide +kernel⟩
theorem okC10_423 : OKC 10 423 (0, 248, 1, 10) := Or.inl ⟨rfl, by decide, by decide, q2033, q2035, qs139, 0, rfl, by decide +kernel⟩
theorem okC10_426 : OKC 10 426 (0, 250, 1, 10) := Or.inl ⟨rfl, by decide, by decide, q2041, q2043, qs141, 0, rfl, by decide +kernel⟩
theorem okC10_429 : OKC 10 429 (0, 249, 2, 10) := Or.inl ⟨rfl, by decide, by decide, q2037, q2039, qs140, 1, rfl, by decide +kernel⟩
theorem okC10_432 : OKC 10 432 (0, 251, 2, 10) := Or.inl ⟨rfl, by decide, by decide, q2045, q2047, qs142, 1, rfl, by decide +kernel⟩
theorem okC10_438 : OKC 10 438 (0, 223, 3, 10) := Or.inl ⟨rfl, by decide, by decide, q1932, q1934, qs114, 2, rfl, by decide +kernel⟩
theorem okC10_444 : OKC 10 444 (0, 253, 2, 10) := Or.inl ⟨rfl, by decide, by decide, q2053, q2055, qs144, 1, rfl, by decide +kernel⟩
theorem okC10_447 : OKC 10 447 (0, 254, 4, 10) := Or.inl ⟨rfl, by decide, by decide, q2057, q2059, qs145, 3, rfl, by decide +kernel⟩
theorem okC10_450 : OKC 10 450 (0, 234, 1, 10) := Or.inl ⟨rfl, by decide, by decide, q1977, q1979, qs125, 0, rfl, by decide +kernel⟩
theorem okC10_456 : OKC 10 456 (0, 252, 1, 10) := Or.inl ⟨rfl, by decide, by decide, q2049, q2051, qs143, 0, rfl, by decide +kernel⟩
theorem okC10_461 : OKC 10 461 (0, 225, 1, 10) := Or.inl ⟨rfl, by decide, by decide, q1940, q1942, qs116, 0, rfl, by decide +kernel⟩
theorem okC10_464 : OKC 10 464 (0, 233, 1, 10) := Or.inl ⟨rfl, by decide, by decide, q1973, q1975, qs124, 0, rfl, by decide +kernel⟩
theorem okC10_467 : OKC 10 467 (1, 255, 1, 0) := Or.inr (Or.inl ⟨rfl, by decide, q2061, q2062, by decide +kernel⟩)
theorem okC10_471 : OKC 10 471 (0, 222, 1, 10) := Or.inl ⟨rfl, by decide, by decide, q1928, q1930, qs113, 0, rfl, by decide +kernel⟩
theorem okC10_480 : OKC 10 480 (0, 257, 4, 10) := Or.inl ⟨rfl, by decide, by decide, q2072, q2074, qs147, 3, rfl, by decide +kernel⟩
theorem okC10_500 : OKC 10 500 (0, 259, 4, 10) := Or.inl ⟨rfl, by decide, by decide, q2085, q2087, qs149, 3, rfl, by decide +kernel⟩
theorem okC10_503 : OKC 10 503 (0, 260, 2, 10) := Or.inl ⟨rfl, by decide, by decide, q2089, q2091, qs150, 1, rfl, by decide +kernel⟩
theorem okC10_506 : OKC 10 506 (0, 261, 3, 10) := Or.inl ⟨rfl, by decide, by decide, q2093, q2095, qs151, 2, rfl, by decide +kernel⟩
theorem okC10_512 : OKC 10 512 (0, 263, 2, 10) := Or.inl ⟨rfl, by decide, by decide, q2101, q2103, qs153, 1, rfl, by decide +kernel⟩
theorem okC10_515 : OKC 10 515 (0, 264, 2, 10) := Or.inl ⟨rfl, by decide, by decide, q2105, q2107, qs154, 1, rfl, by decide +kernel⟩
theorem okC10_518 : OKC 10 518 (0, 186, 1, 10) := Or.inl ⟨rfl, by decide, by decide, q1788, q1790, qs85, 0, rfl, by decide +kernel⟩
theorem okC10_521 : OKC 10 521 (0, 200, 1, 10) := Or.inl ⟨rfl, by decide, by decide, q1842, q1844, qs93, 0, rfl, by decide +kernel⟩
theorem okC10_524 : OKC 10 524 (0, 221, 1, 10) := Or.inl ⟨rfl, by decide, by decide, q1924, q1926, qs112, 0, rfl, by decide +kernel⟩
theorem okC10_527 : OKC 10 527 (0, 256, 1, 10) := Or.inl ⟨rfl, by decide, by decide, q2065, q2067, qs146, 0, rfl, by decide +kernel⟩
theorem okC10_530 : OKC 10 530 (0, 258, 1, 10) := Or.inl ⟨rfl, by decide, by decide, q2081, q2083, qs148, 0, rfl, by decide +kernel⟩
theorem okC10_533 : OKC 10 533 (0, 262, 1, 10) := Or.inl ⟨rfl, by decide, by decide, q2097, q2099, qs152, 0, rfl, by decide +kernel⟩
theorem okC10_539 : OKC 10 539 (0, 185, 1, 10) := Or.inl ⟨rfl, by decide, by decide, q1784, q1786, qs84, 0, rfl, by decide +kernel⟩
theorem okC10_551 : OKC 10 551 (0, 265, 1, 10) := Or.inl ⟨rfl, by decide, by decide, q2109, q2111, qs155, 0, rfl, by decide +kernel⟩
theorem okC10_554 : OKC 10 554 (0, 266, 1, 10) := Or.inl ⟨rfl, by decide, by decide, q2113, q2115, qs156, 0, rfl, by decide +kernel⟩
theorem okC10_577 : OKC 10 577 (1, 274, 2, 0) := Or.inr (Or.inl ⟨rfl, by decide, q2143, q2144, by decide +kernel⟩)
theorem okC10_581 : OKC 10 581 (1, 271, 1, 0) := Or.inr (Or.inl ⟨rfl, by decide, q2133, q2134, by decide +kernel⟩)
theorem okC10_587 : OKC 10 587 (0, 269, 2, 10) := Or.inl ⟨rfl, by decide, by decide, q2125, q2127, qs159, 1, rfl, by decide +kernel⟩
theorem okC10_590 : OKC 10 590 (0, 270, 1, 10) := Or.inl ⟨rfl, by decide, by decide, q2129, q2131, qs160, 0, rfl, by decide +kernel⟩
theorem okC10_594 : OKC 10 594 (1, 272, 3, 0) := Or.inr (Or.inl ⟨rfl, by decide, q2137, q2138, by decide +kernel⟩)
theorem okC10_598 : OKC 10 598 (1, 273, 4, 0) := Or.inr (Or.inl ⟨rfl, by decide, q2140, q2141, by decide +kernel⟩)
theorem okC10_602 : OKC 10 602 (0, 268, 4, 10) := Or.inl ⟨rfl, by decide, by decide, q2121, q2123, qs158, 3, rfl, by decide +kernel⟩
theorem okC10_608 : OKC 10 608 (0, 267, 3, 10) := Or.inl ⟨rfl, by decide, by decide, q2117, q2119, qs157, 2, rfl, by decide +kernel⟩
theorem okC10_612 : OKC 10 612 (0, 281, 3, 10) := Or.inl ⟨rfl, by decide, by decide, q2171, q2173, qs162, 2, rfl, by decide +kernel⟩
theorem okC10_615 : OKC 10 615 (0, 280, 2, 10) := Or.inl ⟨rfl, by decide, by decide, q2167, q2169, qs161, 1, rfl, by decide +kernel⟩
theorem okC10_618 : OKC 10 618 (0, 283, 2, 10) := Or.inl ⟨rfl, by decide, by decide, q2179, q2181, qs163, 1, rfl, by decide +kernel⟩
theorem okC10_621 : OKC 10 621 (0, 284, 2, 10) := Or.inl ⟨rfl, by decide, by decide, q2183, q2185, qs164, 1, rfl, by decide +kernel⟩
theorem okC10_624 : OKC 10 624 (0, 288, 2, 10) := Or.inl ⟨rfl, by decide, by decide, q2199, q2201, qs165, 1, rfl, by decide +kernel⟩
theorem okC10_628 : OKC 10 628 (0, 291, 1, 10) := Or.inl ⟨rfl, by decide, by decide, q2211, q2213, qs166, 0, rfl, by decide +kernel⟩
theorem okCl10 : ∀ e ∈ mLs 10, OKC 10 e.1 e.2 := List.forall_mem_cons.mpr ⟨okC10_1, List.forall_mem_cons.mpr ⟨okC10_199, List.forall_mem_cons.mpr ⟨okC10_203, List.forall_mem_cons.mpr ⟨okC10_206, List.forall_mem_cons.mpr ⟨okC10_213, List.forall_mem_cons.mpr ⟨okC10_222, List.forall_mem_cons.mpr ⟨okC10_228, List.forall_mem_cons.mpr ⟨okC10_234, List.forall_mem_cons.mpr ⟨okC10_237, List.forall_mem_cons.mpr ⟨okC10_241, List.forall_mem_cons.mpr ⟨okC10_245, List.forall_mem_cons.mpr ⟨okC10_248, List.forall_mem_cons.mpr ⟨okC10_251, List.forall_mem_cons.mpr ⟨okC10_254, List.forall_mem_cons.mpr ⟨okC10_266, List.forall_mem_cons.mpr ⟨okC10_270, List.forall_mem_cons.mpr ⟨okC10_273, List.forall_mem_cons.mpr ⟨okC10_279, List.forall_mem_cons.mpr ⟨okC10_283, List.forall_mem_cons.mpr ⟨okC10_286, List.forall_mem_cons.mpr ⟨okC10_290, List.forall_mem_cons.mpr ⟨okC10_293, List.forall_mem_cons.mpr ⟨okC10_296, List.forall_mem_cons.mpr ⟨okC10_299, List.forall_mem_cons.mpr ⟨okC10_302, List.forall_mem_cons.mpr ⟨okC10_305, List.forall_mem_cons.mpr ⟨okC10_308, List.forall_mem_cons.mpr ⟨okC10_311, List.forall_mem_cons.mpr ⟨okC10_314, List.forall_mem_cons.mpr ⟨okC10_317, List.forall_mem_cons.mpr ⟨okC10_320, List.forall_mem_cons.mpr ⟨okC10_323, List.forall_mem_cons.mpr ⟨okC10_326, List.forall_mem_cons.mpr ⟨okC10_329, List.forall_mem_cons.mpr ⟨okC10_332, List.forall_mem_cons.mpr ⟨okC10_342, List.forall_mem_cons.mpr ⟨okC10_355, List.forall_mem_cons.mpr ⟨okC10_358, List.forall_mem_cons.mpr ⟨okC10_361, List.forall_mem_cons.mpr ⟨okC10_365, List.forall_mem_cons.mpr ⟨okC10_371, List.forall_mem_cons.mpr ⟨okC10_374, List.forall_mem_cons.mpr ⟨okC10_377, List.forall_mem_cons.mpr ⟨okC10_383, List.forall_mem_cons.mpr ⟨okC10_386, List.forall_mem_cons.mpr ⟨okC10_390, List.forall_mem_cons.mpr ⟨okC10_394, List.forall_mem_cons.mpr ⟨okC10_397, List.forall_mem_cons.mpr ⟨okC10_400, List.forall_mem_cons.mpr ⟨okC10_403, List.forall_mem_cons.mpr ⟨okC10_408, List.forall_mem_cons.mpr ⟨okC10_411, List.forall_mem_cons.mpr ⟨okC10_414, List.forall_mem_cons.mpr ⟨okC10_417, List.forall_mem_cons.mpr ⟨okC10_420, List.forall_mem_cons.mpr ⟨okC10_423, List.forall_mem_cons.mpr ⟨okC10_426, List.forall_mem_cons.mpr ⟨okC10_429, List.forall_mem_cons.mpr ⟨okC10_432, List.forall_mem_cons.mpr ⟨okC10_438, List.forall_mem_cons.mpr ⟨okC10_444, List.forall_mem_cons.mpr ⟨okC10_447, List.forall_mem_cons.mpr ⟨okC10_450, List.forall_mem_cons.mpr ⟨okC10_456, List.forall_mem_cons.mpr ⟨okC10_461, List.forall_mem_cons.mpr ⟨okC10_464, List.forall_mem_cons.mpr ⟨okC10_467, List.forall_mem_cons.mpr ⟨okC10_471, List.forall_mem_cons.mpr ⟨okC10_480, List.forall_mem_cons.mpr ⟨okC10_500, List.forall_mem_cons.mpr ⟨okC10_503, List.forall_mem_cons.mpr ⟨okC10_506, List.forall_mem_cons.mpr ⟨okC10_512, List.forall_mem_cons.mpr ⟨okC10_515, List.forall_mem_cons.mpr ⟨okC10_518, List.forall_mem_cons.mpr ⟨okC10_521, List.forall_mem_cons.mpr ⟨okC10_524, List.forall_mem_cons.mpr ⟨okC10_527, List.forall_mem_cons.mpr ⟨okC10_530, List.forall_mem_cons.mpr ⟨okC10_533, List.forall_mem_cons.mpr ⟨okC10_539, List.forall_mem_cons.mpr ⟨okC10_551, List.forall_mem_cons.mpr ⟨okC10_554, List.forall_mem_cons.mpr ⟨okC10_577, List.forall_mem_cons.mpr ⟨okC10_581, List.forall_mem_cons.mpr ⟨okC10_587, List.forall_mem_cons.mpr ⟨okC10_590, List.forall_mem_cons.mpr ⟨okC10_594, List.forall_mem_cons.mpr ⟨okC10_598, List.forall_mem_cons.mpr ⟨okC10_602, List.forall_mem_cons.mpr ⟨okC10_608, List.forall_mem_cons.mpr ⟨okC10_612, List.forall_mem_cons.mpr ⟨okC10_615, List.forall_mem_cons.mpr ⟨okC10_618, List.forall_mem_cons.mpr ⟨okC10_621, List.forall_mem_cons.mpr ⟨okC10_624, List.forall_mem_cons.mpr ⟨okC10_628, fun _ h => absurd h List.not_mem_nil⟩⟩⟩⟩⟩⟩⟩⟩⟩⟩⟩⟩⟩⟩⟩⟩⟩⟩⟩⟩⟩⟩⟩⟩⟩⟩⟩⟩⟩⟩⟩⟩⟩⟩⟩⟩⟩⟩⟩⟩⟩⟩⟩⟩⟩⟩⟩⟩⟩⟩⟩⟩⟩⟩⟩⟩⟩⟩⟩⟩⟩⟩⟩⟩⟩⟩⟩⟩⟩⟩⟩⟩⟩⟩⟩⟩⟩⟩⟩⟩⟩⟩⟩⟩⟩⟩⟩⟩⟩⟩⟩⟩⟩⟩⟩⟩⟩
theorem okCl11 : ∀ e ∈ mLs 11, OKC 11 e.1 e.2 := fun _ h => absurd h List.not_mem_nil
theorem okC : ∀ (w n : Nat) q, mT w n = some q → OKC w n q := by
  intro w n q h
  have hm := lk_mem h
  match w, hm with
  | 0, hm => exact okCl0 _ hm
  | 1, hm => exact okCl1 _ hm
  | 2, hm => exact okCl2 _ hm
  | 3, hm => exact okCl3 _ hm
  | 4, hm => exact okCl4 _ hm
  | 5, hm => exact okCl5 _ hm
  | 6, hm => exact okCl6 _ hm
  | 7, hm => exact okCl7 _ hm
  | 8, hm => exact okCl8 _ hm
  | 9, hm => exact okCl9 _ hm
  | 10, hm => exact okCl10 _ hm
  | 11, hm => exact okCl11 _ hm
  | w + 12, hm => exact absurd hm List.not_mem_nil
def stT (a : Nat) : String × Nat × String := match a with
  | 2 => (oS 1, 82, "too long")
  | 3 => (oS 1, 55, "not as said")
  | 4 => (oS 1, 140, "no such what")
  | 5 => (oS 1, 48, "no circuit")
  | 6 => (oS 1, 73, "no such signal")
  | 7 => (oS 2, 11, "module")
  | 8 => (oS 2, 13, "endmodule")
  | 9 => (oS 2, 15, "input")
  | 10 => (oS 2, 17, "output")
  | 11 => (oS 2, 19, "wire")
  | 12 => (oS 2, 21, "reg")
  | 13 => (oS 2, 23, "assign")
  | 14 => (oS 2, 25, "always")
  | 15 => (oS 2, 27, "posedge")
  | 16 => (oS 2, 29, "clock")
  | 17 => (oS 2, 31, "begin")
  | 18 => (oS 2, 33, "end")
  | 19 => (oS 2, 35, "if")
  | 20 => (oS 2, 37, "else")
  | 21 => (oS 2, 39, "case")
  | 22 => (oS 2, 41, "endcase")
  | 23 => (oS 2, 43, "default")
  | 24 => (oS 2, 45, "assert")
  | 25 => (oS 2, 55, "a fault")
  | _ => ("", 0, "")
def OKI (w n : Nat) (v : Value) : Prop := (∃ x, v = .int x ∧ Cond.constant (oS w) n x ∈ lw_all) ∨ (∃ a tx, v = .ref a ∧ 2 ≤ a ∧ a < K0 ∧ Cond.stringRef (oS w) n tx ∈ lw_tbl ∧ stT a = (oS w, n, tx))
theorem okIl0 : ∀ e ∈ cLs 0, OKI 0 e.1 e.2 := fun _ h => absurd h List.not_mem_nil
theorem okI1_48 : OKI 1 48 (.ref 5) := Or.inr ⟨_, _, rfl, by decide, by decide, q1357, rfl⟩
theorem okI1_55 : OKI 1 55 (.ref 3) := Or.inr ⟨_, _, rfl, by decide, by decide, q1338, rfl⟩
theorem okI1_73 : OKI 1 73 (.ref 6) := Or.inr ⟨_, _, rfl, by decide, by decide, q1418, rfl⟩
theorem okI1_79 : OKI 1 79 (.int (65536 : Int32)) := Or.inl ⟨_, rfl, q1301⟩
theorem okI1_82 : OKI 1 82 (.ref 2) := Or.inr ⟨_, _, rfl, by decide, by decide, q1311, rfl⟩
theorem okI1_140 : OKI 1 140 (.ref 4) := Or.inr ⟨_, _, rfl, by decide, by decide, q1361, rfl⟩
theorem okIl1 : ∀ e ∈ cLs 1, OKI 1 e.1 e.2 := List.forall_mem_cons.mpr ⟨okI1_48, List.forall_mem_cons.mpr ⟨okI1_55, List.forall_mem_cons.mpr ⟨okI1_73, List.forall_mem_cons.mpr ⟨okI1_79, List.forall_mem_cons.mpr ⟨okI1_82, List.forall_mem_cons.mpr ⟨okI1_140, fun _ h => absurd h List.not_mem_nil⟩⟩⟩⟩⟩⟩
theorem okI2_11 : OKI 2 11 (.ref 7) := Or.inr ⟨_, _, rfl, by decide, by decide, q208, rfl⟩
theorem okI2_13 : OKI 2 13 (.ref 8) := Or.inr ⟨_, _, rfl, by decide, by decide, q209, rfl⟩
theorem okI2_15 : OKI 2 15 (.ref 9) := Or.inr ⟨_, _, rfl, by decide, by decide, q210, rfl⟩
theorem okI2_17 : OKI 2 17 (.ref 10) := Or.inr ⟨_, _, rfl, by decide, by decide, q211, rfl⟩
theorem okI2_19 : OKI 2 19 (.ref 11) := Or.inr ⟨_, _, rfl, by decide, by decide, q212, rfl⟩
theorem okI2_21 : OKI 2 21 (.ref 12) := Or.inr ⟨_, _, rfl, by decide, by decide, q213, rfl⟩
theorem okI2_23 : OKI 2 23 (.ref 13) := Or.inr ⟨_, _, rfl, by decide, by decide, q214, rfl⟩
theorem okI2_25 : OKI 2 25 (.ref 14) := Or.inr ⟨_, _, rfl, by decide, by decide, q215, rfl⟩
theorem okI2_27 : OKI 2 27 (.ref 15) := Or.inr ⟨_, _, rfl, by decide, by decide, q216, rfl⟩
theorem okI2_29 : OKI 2 29 (.ref 16) := Or.inr ⟨_, _, rfl, by decide, by decide, q217, rfl⟩
theorem okI2_31 : OKI 2 31 (.ref 17) := Or.inr ⟨_, _, rfl, by decide, by decide, q218, rfl⟩
theorem okI2_33 : OKI 2 33 (.ref 18) := Or.inr ⟨_, _, rfl, by decide, by decide, q219, rfl⟩
theorem okI2_35 : OKI 2 35 (.ref 19) := Or.inr ⟨_, _, rfl, by decide, by decide, q220, rfl⟩
theorem okI2_37 : OKI 2 37 (.ref 20) := Or.inr ⟨_, _, rfl, by decide, by decide, q221, rfl⟩
theorem okI2_39 : OKI 2 39 (.ref 21) := Or.inr ⟨_, _, rfl, by decide, by decide, q222, rfl⟩
theorem okI2_41 : OKI 2 41 (.ref 22) := Or.inr ⟨_, _, rfl, by decide, by decide, q223, rfl⟩
theorem okI2_43 : OKI 2 43 (.ref 23) := Or.inr ⟨_, _, rfl, by decide, by decide, q224, rfl⟩
theorem okI2_45 : OKI 2 45 (.ref 24) := Or.inr ⟨_, _, rfl, by decide, by decide, q225, rfl⟩
theorem okI2_55 : OKI 2 55 (.ref 25) := Or.inr ⟨_, _, rfl, by decide, by decide, q269, rfl⟩
theorem okI2_64 : OKI 2 64 (.int (65536 : Int32)) := Or.inl ⟨_, rfl, q296⟩
theorem okI2_133 : OKI 2 133 (.int (65535 : Int32)) := Or.inl ⟨_, rfl, q742⟩
theorem okIl2 : ∀ e ∈ cLs 2, OKI 2 e.1 e.2 := List.forall_mem_cons.mpr ⟨okI2_11, List.forall_mem_cons.mpr ⟨okI2_13, List.forall_mem_cons.mpr ⟨okI2_15, List.forall_mem_cons.mpr ⟨okI2_17, List.forall_mem_cons.mpr ⟨okI2_19, List.forall_mem_cons.mpr ⟨okI2_21, List.forall_mem_cons.mpr ⟨okI2_23, List.forall_mem_cons.mpr ⟨okI2_25, List.forall_mem_cons.mpr ⟨okI2_27, List.forall_mem_cons.mpr ⟨okI2_29, List.forall_mem_cons.mpr ⟨okI2_31, List.forall_mem_cons.mpr ⟨okI2_33, List.forall_mem_cons.mpr ⟨okI2_35, List.forall_mem_cons.mpr ⟨okI2_37, List.forall_mem_cons.mpr ⟨okI2_39, List.forall_mem_cons.mpr ⟨okI2_41, List.forall_mem_cons.mpr ⟨okI2_43, List.forall_mem_cons.mpr ⟨okI2_45, List.forall_mem_cons.mpr ⟨okI2_55, List.forall_mem_cons.mpr ⟨okI2_64, List.forall_mem_cons.mpr ⟨okI2_133, fun _ h => absurd h List.not_mem_nil⟩⟩⟩⟩⟩⟩⟩⟩⟩⟩⟩⟩⟩⟩⟩⟩⟩⟩⟩⟩⟩
theorem okIl3 : ∀ e ∈ cLs 3, OKI 3 e.1 e.2 := fun _ h => absurd h List.not_mem_nil
theorem okIl4 : ∀ e ∈ cLs 4, OKI 4 e.1 e.2 := fun _ h => absurd h List.not_mem_nil
theorem okI5_102 : OKI 5 102 (.int (100000 : Int32)) := Or.inl ⟨_, rfl, q1022⟩
theorem okIl5 : ∀ e ∈ cLs 5, OKI 5 e.1 e.2 := List.forall_mem_cons.mpr ⟨okI5_102, fun _ h => absurd h List.not_mem_nil⟩
theorem okI6_33 : OKI 6 33 (.int (65536 : Int32)) := Or.inl ⟨_, rfl, q416⟩
theorem okIl6 : ∀ e ∈ cLs 6, OKI 6 e.1 e.2 := List.forall_mem_cons.mpr ⟨okI6_33, fun _ h => absurd h List.not_mem_nil⟩
theorem okI7_21 : OKI 7 21 (.int (32768 : Int32)) := Or.inl ⟨_, rfl, q458⟩
theorem okIl7 : ∀ e ∈ cLs 7, OKI 7 e.1 e.2 := List.forall_mem_cons.mpr ⟨okI7_21, fun _ h => absurd h List.not_mem_nil⟩
theorem okIl8 : ∀ e ∈ cLs 8, OKI 8 e.1 e.2 := fun _ h => absurd h List.not_mem_nil
theorem okIl9 : ∀ e ∈ cLs 9, OKI 9 e.1 e.2 := fun _ h => absurd h List.not_mem_nil
theorem okI10_7 : OKI 10 7 (.int (65536 : Int32)) := Or.inl ⟨_, rfl, q1498⟩
theorem okI10_14 : OKI 10 14 (.int (65540 : Int32)) := Or.inl ⟨_, rfl, q1499⟩
theorem okIl10 : ∀ e ∈ cLs 10, OKI 10 e.1 e.2 := List.forall_mem_cons.mpr ⟨okI10_7, List.forall_mem_cons.mpr ⟨okI10_14, fun _ h => absurd h List.not_mem_nil⟩⟩
theorem okIl11 : ∀ e ∈ cLs 11, OKI 11 e.1 e.2 := fun _ h => absurd h List.not_mem_nil
theorem okI : ∀ (w n : Nat) q, cT w n = some q → OKI w n q := by
  intro w n q h
  have hm := lk_mem h
  match w, hm with
  | 0, hm => exact okIl0 _ hm
  | 1, hm => exact okIl1 _ hm
  | 2, hm => exact okIl2 _ hm
  | 3, hm => exact okIl3 _ hm
  | 4, hm => exact okIl4 _ hm
  | 5, hm => exact okIl5 _ hm
  | 6, hm => exact okIl6 _ hm
  | 7, hm => exact okIl7 _ hm
  | 8, hm => exact okIl8 _ hm
  | 9, hm => exact okIl9 _ hm
  | 10, hm => exact okIl10 _ hm
  | 11, hm => exact okIl11 _ hm
  | w + 12, hm => exact absurd hm List.not_mem_nil
def OKJ (w n : Nat) (v : Int64) : Prop := Cond.constantLong (oS w) n v ∈ lw_all
theorem okJl0 : ∀ e ∈ jLs 0, OKJ 0 e.1 e.2 := fun _ h => absurd h List.not_mem_nil
theorem okJl1 : ∀ e ∈ jLs 1, OKJ 1 e.1 e.2 := fun _ h => absurd h List.not_mem_nil
theorem okJl2 : ∀ e ∈ jLs 2, OKJ 2 e.1 e.2 := List.forall_mem_cons.mpr ⟨q750, fun _ h => absurd h List.not_mem_nil⟩
theorem okJl3 : ∀ e ∈ jLs 3, OKJ 3 e.1 e.2 := fun _ h => absurd h List.not_mem_nil
theorem okJl4 : ∀ e ∈ jLs 4, OKJ 4 e.1 e.2 := fun _ h => absurd h List.not_mem_nil
theorem okJl5 : ∀ e ∈ jLs 5, OKJ 5 e.1 e.2 := List.forall_mem_cons.mpr ⟨q1049, List.forall_mem_cons.mpr ⟨q1112, fun _ h => absurd h List.not_mem_nil⟩⟩
theorem okJl6 : ∀ e ∈ jLs 6, OKJ 6 e.1 e.2 := fun _ h => absurd h List.not_mem_nil
theorem okJl7 : ∀ e ∈ jLs 7, OKJ 7 e.1 e.2 := fun _ h => absurd h List.not_mem_nil
theorem okJl8 : ∀ e ∈ jLs 8, OKJ 8 e.1 e.2 := fun _ h => absurd h List.not_mem_nil
theorem okJl9 : ∀ e ∈ jLs 9, OKJ 9 e.1 e.2 := fun _ h => absurd h List.not_mem_nil
theorem okJl10 : ∀ e ∈ jLs 10, OKJ 10 e.1 e.2 := List.forall_mem_cons.mpr ⟨q1834, List.forall_mem_cons.mpr ⟨q1835, List.forall_mem_cons.mpr ⟨q1952, List.forall_mem_cons.mpr ⟨q2064, List.forall_mem_cons.mpr ⟨q2069, List.forall_mem_cons.mpr ⟨q2070, List.forall_mem_cons.mpr ⟨q2071, List.forall_mem_cons.mpr ⟨q2076, List.forall_mem_cons.mpr ⟨q2077, List.forall_mem_cons.mpr ⟨q2078, List.forall_mem_cons.mpr ⟨q2079, List.forall_mem_cons.mpr ⟨q2080, List.forall_mem_cons.mpr ⟨q2136, List.forall_mem_cons.mpr ⟨q2146, fun _ h => absurd h List.not_mem_nil⟩⟩⟩⟩⟩⟩⟩⟩⟩⟩⟩⟩⟩⟩
theorem okJl11 : ∀ e ∈ jLs 11, OKJ 11 e.1 e.2 := fun _ h => absurd h List.not_mem_nil
theorem okJ : ∀ (w n : Nat) q, jT w n = some q → OKJ w n q := by
  intro w n q h
  have hm := lk_mem h
  match w, hm with
  | 0, hm => exact okJl0 _ hm
  | 1, hm => exact okJl1 _ hm
  | 2, hm => exact okJl2 _ hm
  | 3, hm => exact okJl3 _ hm
  | 4, hm => exact okJl4 _ hm
  | 5, hm => exact okJl5 _ hm
  | 6, hm => exact okJl6 _ hm
  | 7, hm => exact okJl7 _ hm
  | 8, hm => exact okJl8 _ hm
  | 9, hm => exact okJl9 _ hm
  | 10, hm => exact okJl10 _ hm
  | 11, hm => exact okJl11 _ hm
  | w + 12, hm => exact absurd hm List.not_mem_nil
def OKW (w n : Nat) (q : Nat × Nat) : Prop := q.1 < 14 ∧ Cond.classLink (oS w) n (CI q.1).1 ∈ lw_all ∧ Cond.instantiable (CI q.1).1 q.2 ∈ lw_all ∧ Cond.initialized (CI q.1).1 ∈ lw_all ∧ (q.2 = (CI q.1).2.2 ∨ (CI q.1).2.2 = 0)
theorem okW0_8 : OKW 0 8 (1, 7) := ⟨by decide, q192, q193, q168, by decide⟩
theorem okW0_55 : OKW 0 55 (10, 91) := ⟨by decide, q1492, q1493, q181, by decide⟩
theorem okWl0 : ∀ e ∈ nLs 0, OKW 0 e.1 e.2 := List.forall_mem_cons.mpr ⟨okW0_8, List.forall_mem_cons.mpr ⟨okW0_55, fun _ h => absurd h List.not_mem_nil⟩⟩
theorem okW1_7 : OKW 1 7 (2, 11) := ⟨by decide, q200, q201, q169, by decide⟩
theorem okW1_16 : OKW 1 16 (3, 11) := ⟨by decide, q342, q343, q174, by decide⟩
theorem okW1_25 : OKW 1 25 (5, 25) := ⟨by decide, q402, q403, q176, by decide⟩
theorem okW1_35 : OKW 1 35 (9, 4) := ⟨by decide, q589, q590, q180, by decide⟩
theorem okW1_46 : OKW 1 46 (0, 6) := ⟨by decide, q636, q227, q173, by decide⟩
theorem okW1_53 : OKW 1 53 (12, 6) := ⟨by decide, q1329, q1330, q183, by decide⟩
theorem okW1_71 : OKW 1 71 (13, 6) := ⟨by decide, q1409, q1410, q190, by decide⟩
theorem okW1_80 : OKW 1 80 (11, 6) := ⟨by decide, q1302, q1303, q182, by decide⟩
theorem okWl1 : ∀ e ∈ nLs 1, OKW 1 e.1 e.2 := List.forall_mem_cons.mpr ⟨okW1_7, List.forall_mem_cons.mpr ⟨okW1_16, List.forall_mem_cons.mpr ⟨okW1_25, List.forall_mem_cons.mpr ⟨okW1_35, List.forall_mem_cons.mpr ⟨okW1_46, List.forall_mem_cons.mpr ⟨okW1_53, List.forall_mem_cons.mpr ⟨okW1_71, List.forall_mem_cons.mpr ⟨okW1_80, fun _ h => absurd h List.not_mem_nil⟩⟩⟩⟩⟩⟩⟩⟩
theorem okW2_53 : OKW 2 53 (0, 6) := ⟨by decide, q226, q227, q173, by decide⟩
theorem okWl2 : ∀ e ∈ nLs 2, OKW 2 e.1 e.2 := List.forall_mem_cons.mpr ⟨okW2_53, fun _ h => absurd h List.not_mem_nil⟩
theorem okW3_9 : OKW 3 9 (4, 2) := ⟨by decide, q348, q349, q175, by decide⟩
theorem okWl3 : ∀ e ∈ nLs 3, OKW 3 e.1 e.2 := List.forall_mem_cons.mpr ⟨okW3_9, fun _ h => absurd h List.not_mem_nil⟩
theorem okWl4 : ∀ e ∈ nLs 4, OKW 4 e.1 e.2 := fun _ h => absurd h List.not_mem_nil
theorem okW5_9 : OKW 5 9 (6, 7) := ⟨by decide, q408, q409, q177, by decide⟩
theorem okW5_18 : OKW 5 18 (7, 5) := ⟨by decide, q452, q453, q178, by decide⟩
theorem okW5_25 : OKW 5 25 (8, 3) := ⟨by decide, q479, q480, q179, by decide⟩
theorem okW5_34 : OKW 5 34 (4, 2) := ⟨by decide, q498, q349, q175, by decide⟩
theorem okWl5 : ∀ e ∈ nLs 5, OKW 5 e.1 e.2 := List.forall_mem_cons.mpr ⟨okW5_9, List.forall_mem_cons.mpr ⟨okW5_18, List.forall_mem_cons.mpr ⟨okW5_25, List.forall_mem_cons.mpr ⟨okW5_34, fun _ h => absurd h List.not_mem_nil⟩⟩⟩⟩
theorem okW6_9 : OKW 6 9 (4, 2) := ⟨by decide, q414, q349, q175, by decide⟩
theorem okWl6 : ∀ e ∈ nLs 6, OKW 6 e.1 e.2 := List.forall_mem_cons.mpr ⟨okW6_9, fun _ h => absurd h List.not_mem_nil⟩
theorem okWl7 : ∀ e ∈ nLs 7, OKW 7 e.1 e.2 := fun _ h => absurd h List.not_mem_nil
theorem okW8_9 : OKW 8 9 (4, 2) := ⟨by decide, q485, q349, q175, by decide⟩
theorem okWl8 : ∀ e ∈ nLs 8, OKW 8 e.1 e.2 := List.forall_mem_cons.mpr ⟨okW8_9, fun _ h => absurd h List.not_mem_nil⟩
theorem okWl9 : ∀ e ∈ nLs 9, OKW 9 e.1 e.2 := fun _ h => absurd h List.not_mem_nil
theorem okWl10 : ∀ e ∈ nLs 10, OKW 10 e.1 e.2 := fun _ h => absurd h List.not_mem_nil
theorem okWl11 : ∀ e ∈ nLs 11, OKW 11 e.1 e.2 := fun _ h => absurd h List.not_mem_nil
theorem okW : ∀ (w n : Nat) q, nT w n = some q → OKW w n q := by
  intro w n q h
  have hm := lk_mem h
  match w, hm with
  | 0, hm => exact okWl0 _ hm
  | 1, hm => exact okWl1 _ hm
  | 2, hm => exact okWl2 _ hm
  | 3, hm => exact okWl3 _ hm
  | 4, hm => exact okWl4 _ hm
  | 5, hm => exact okWl5 _ hm
  | 6, hm => exact okWl6 _ hm
  | 7, hm => exact okWl7 _ hm
  | 8, hm => exact okWl8 _ hm
  | 9, hm => exact okWl9 _ hm
  | 10, hm => exact okWl10 _ hm
  | 11, hm => exact okWl11 _ hm
  | w + 12, hm => exact absurd hm List.not_mem_nil
