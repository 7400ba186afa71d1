/-! the tables of the abstract machine: instructions of every method, links of every class, and that they are what the class files say (printed by wip/gen/tables.py) -/
set_option maxRecDepth 100000
abbrev am_En : Type := Nat × Instr × Nat × List Nat
abbrev am_MR : Type := MethodName × ByteArray × Nat × Option FieldType × Nat × Nat × (Nat × Nat) × List (List am_En)
def am_nth {α : Type} : List α → Nat → Option α
  | [], _ => none
  | x :: _, 0 => some x
  | _ :: t, n + 1 => am_nth t n
def am_lk {α : Type} : List (Nat × α) → Nat → Option α
  | [], _ => none
  | (i, v) :: t, n => cond (Nat.beq i n) (some v) (am_lk t n)
theorem am_nth_mem {α : Type} : ∀ {l : List α} {n : Nat} {v : α}, am_nth l n = some v → v ∈ l
  | [], _, _, h => by cases h
  | x :: t, 0, v, h => by cases h; exact List.mem_cons_self
  | x :: t, n + 1, v, h => List.mem_cons_of_mem _ (am_nth_mem (l := t) (n := n) h)
theorem am_lk_mem {α : Type} : ∀ {l : List (Nat × α)} {n : Nat} {v : α}, am_lk l n = some v → (n, v) ∈ l
  | [], _, _, h => by cases h
  | (i, w) :: t, n, v, h => by
    unfold am_lk at h
    cases hb : Nat.beq i n with
    | true =>
      rw [hb] at h
      have e : i = n := Nat.eq_of_beq_eq_true hb
      cases h
      rw [e]
      exact List.mem_cons_self
    | false =>
      rw [hb] at h
      exact List.mem_cons_of_mem _ (am_lk_mem h)
def am_at (t : List (List am_En)) (pc : Nat) : Option (Instr × Nat × List Nat) := match am_nth t (pc / 16) with
  | some l => am_lk l pc
  | none => none
def am_tg (pc : Nat) (i : Instr) : List Int := match i with
  | .if_icmp _ off => [(pc : Int) + off]
  | .ifCond _ off => [(pc : Int) + off]
  | .if_acmp _ off => [(pc : Int) + off]
  | .goto off => [(pc : Int) + off]
  | .tableswitch d _ _ offs => ((pc : Int) + d) :: offs.toList.map (fun o => (pc : Int) + o)
  | _ => []
/-- how long an instruction is -/
def am_il (i : Instr) : Nat := match i with
  | .iload _ => 2
  | .lload _ => 2
  | .aload _ => 2
  | .istore _ => 2
  | .lstore _ => 2
  | .astore _ => 2
  | .bipush _ => 2
  | .ldc _ => 2
  | .newarray _ => 2
  | .iinc _ _ => 3
  | .sipush _ => 3
  | .ldc_w _ => 3
  | .ldc2_w _ => 3
  | .goto _ => 3
  | .ifCond _ _ => 3
  | .if_icmp _ _ => 3
  | .if_acmp _ _ => 3
  | .getfield _ => 3
  | .putfield _ => 3
  | .new _ => 3
  | .anewarray _ => 3
  | .invokevirtual _ => 3
  | .invokestatic _ => 3
  | .invokespecial _ => 3
  | .tableswitch _ _ _ _ => 0
  | _ => 1
def am_okE (code : ByteArray) (e : am_En) : Bool := decide (decode code e.1 = .ok (e.2.1, e.2.2.1 - e.1)) && (Nat.blt e.1 e.2.2.1 && (decide (e.2.2.2.map Int.ofNat = am_tg e.1 e.2.1) && (Nat.beq (am_il e.2.1) 0 || Nat.beq e.2.2.1 (e.1 + am_il e.2.1))))
def am_chk (code : ByteArray) (t : List (List am_En)) : Bool := t.all (fun l => l.all (am_okE code))
theorem am_chk_c {code : ByteArray} {l : List am_En} {t : List (List am_En)} (h : l.all (am_okE code) = true) (ht : am_chk code t = true) : am_chk code (l :: t) = true := by
  show (l.all (am_okE code) && am_chk code t) = true
  rw [h, ht]
  rfl
theorem am_chk_at {code : ByteArray} {t : List (List am_En)} (h : am_chk code t = true) {pc : Nat} {i : Instr} {nx : Nat} {ts : List Nat} (ha : am_at t pc = some (i, nx, ts)) : decode code pc = .ok (i, nx - pc) ∧ pc < nx ∧ ts.map Int.ofNat = am_tg pc i ∧ (am_il i = 0 ∨ nx = pc + am_il i) := by
  unfold am_at at ha
  cases hn : am_nth t (pc / 16) with
  | none => rw [hn] at ha; cases ha
  | some l =>
    rw [hn] at ha
    have h1 := List.all_eq_true.mp h l (am_nth_mem hn)
    have h2 := List.all_eq_true.mp h1 _ (am_lk_mem ha)
    unfold am_okE at h2
    simp only [Bool.and_eq_true, Bool.or_eq_true, decide_eq_true_eq] at h2
    refine ⟨h2.1, Nat.blt_eq.mp h2.2.1, h2.2.2.1, ?_⟩
    rcases h2.2.2.2 with h | h
    · exact Or.inl (Nat.eq_of_beq_eq_true h)
    · exact Or.inr (Nat.eq_of_beq_eq_true h)
def am_cn : Nat → String
  | 0 => RX0
  | 1 => RX1
  | 2 => RX2
  | 3 => RX3
  | 4 => RX4
  | 5 => RX5
  | 6 => RX6
  | 7 => RX7
  | 8 => RX8
  | 9 => RX9
  | 10 => "ApplyFreeLaw"
  | 11 => RJ0
  | _ => RJ1
def am_T : Nat → u_T
  | 0 => TX0
  | 1 => TX1
  | 2 => TX2
  | 3 => TX3
  | 4 => TX4
  | 5 => TX5
  | 6 => TX6
  | 7 => TX7
  | 8 => TX8
  | _ => TX9
def am_ty : Nat → Nat → FieldType
  | 0 => tyX0
  | 1 => tyX1
  | 2 => tyX2
  | 3 => tyX3
  | 4 => tyX4
  | 5 => tyX5
  | 6 => tyX6
  | 7 => tyX7
  | 8 => tyX8
  | _ => tyX9
def am_nf : Nat → Nat
  | 0 => 9
  | 1 => 12
  | 2 => 10
  | 3 => 8
  | 4 => 4
  | 5 => 17
  | 6 => 1
  | 7 => 13
  | 8 => 22
  | _ => 3
abbrev am_cl : List vw_C := [(RX0, TX0, 9), (RX1, TX1, 12), (RX2, TX2, 10), (RX3, TX3, 8), (RX4, TX4, 4), (RX5, TX5, 17), (RX6, TX6, 1), (RX7, TX7, 13), (RX8, TX8, 22), (RX9, TX9, 3)]
theorem am_cl_at : ∀ c, c < 10 → am_cl[c]? = some (am_cn c, am_T c, am_nf c)
  | 0, _ => rfl
  | 1, _ => rfl
  | 2, _ => rfl
  | 3, _ => rfl
  | 4, _ => rfl
  | 5, _ => rfl
  | 6, _ => rfl
  | 7, _ => rfl
  | 8, _ => rfl
  | 9, _ => rfl
  | n + 10, h => absurd h (by omega)
theorem am_in : ∀ c, c < 10 → ∀ w ∈ u_ws (am_cn c) (am_T c) (am_nf c), w ∈ lw_all
  | 0, _ => in_X0
  | 1, _ => in_X1
  | 2, _ => in_X2
  | 3, _ => in_X3
  | 4, _ => in_X4
  | 5, _ => in_X5
  | 6, _ => in_X6
  | 7, _ => in_X7
  | 8, _ => in_X8
  | 9, _ => in_X9
  | n + 10, h => absurd h (by omega)
theorem am_ty_ok : ∀ c, c < 10 → ∀ k, k < am_nf c → parseFieldDescriptor ((am_T c) k).2.2.1 = some (am_ty c k)
  | 0, _ => tyX0_ok
  | 1, _ => tyX1_ok
  | 2, _ => tyX2_ok
  | 3, _ => tyX3_ok
  | 4, _ => tyX4_ok
  | 5, _ => tyX5_ok
  | 6, _ => tyX6_ok
  | 7, _ => tyX7_ok
  | 8, _ => tyX8_ok
  | 9, _ => tyX9_ok
  | n + 10, h => absurd h (by omega)
theorem am_nm : ∀ c, c < 10 → ∀ a, a < am_nf c → ∀ b, b < am_nf c → a ≠ b → ((am_T c) a).2.1 ≠ ((am_T c) b).2.1
  | 0, _ => nmX0
  | 1, _ => nmX1
  | 2, _ => nmX2
  | 3, _ => nmX3
  | 4, _ => nmX4
  | 5, _ => nmX5
  | 6, _ => nmX6
  | 7, _ => nmX7
  | 8, _ => nmX8
  | 9, _ => nmX9
  | n + 10, h => absurd h (by omega)
theorem am_inst : ∀ c, c < 10 → (Cond.instantiable (am_cn c) (am_nf c)) ∈ lw_all
  | 0, _ => q93
  | 1, _ => q103
  | 2, _ => q163
  | 3, _ => q213
  | 4, _ => q219
  | 5, _ => q265
  | 6, _ => q271
  | 7, _ => q281
  | 8, _ => q927
  | 9, _ => q422
  | n + 10, h => absurd h (by omega)
theorem am_init : ∀ c, c < 10 → (Cond.initialized (am_cn c)) ∈ lw_all
  | 0, _ => q79
  | 1, _ => q80
  | 2, _ => q81
  | 3, _ => q82
  | 4, _ => q83
  | 5, _ => q84
  | 6, _ => q85
  | 7, _ => q86
  | 8, _ => q87
  | 9, _ => q88
  | n + 10, h => absurd h (by omega)
theorem am_own : ∀ c, c < 10 → ∀ k, ((am_T c) k).1 = am_cn c
  | 0, _ => fun k => (show (TX0 k).1 = RX0 by unfold TX0; first | rfl | (split <;> rfl))
  | 1, _ => fun k => (show (TX1 k).1 = RX1 by unfold TX1; first | rfl | (split <;> rfl))
  | 2, _ => fun k => (show (TX2 k).1 = RX2 by unfold TX2; first | rfl | (split <;> rfl))
  | 3, _ => fun k => (show (TX3 k).1 = RX3 by unfold TX3; first | rfl | (split <;> rfl))
  | 4, _ => fun k => (show (TX4 k).1 = RX4 by unfold TX4; first | rfl | (split <;> rfl))
  | 5, _ => fun k => (show (TX5 k).1 = RX5 by unfold TX5; first | rfl | (split <;> rfl))
  | 6, _ => fun k => (show (TX6 k).1 = RX6 by unfold TX6; first | rfl | (split <;> rfl))
  | 7, _ => fun k => (show (TX7 k).1 = RX7 by unfold TX7; first | rfl | (split <;> rfl))
  | 8, _ => fun k => (show (TX8 k).1 = RX8 by unfold TX8; first | rfl | (split <;> rfl))
  | 9, _ => fun k => (show (TX9 k).1 = RX9 by unfold TX9; first | rfl | (split <;> rfl))
  | n + 10, h => absurd h (by omega)
def am_aty : Nat → FieldType
  | 0 => .int
  | 1 => .byte
  | 2 => .short
  | 3 => .long
  | 4 => .boolean
  | 5 => .object RX9
  | _ => .object RX4
theorem am_acl : ∀ t, t < 5 → (Cond.arrayClass (am_aty t)) ∈ lw_all
  | 0, _ => q161
  | 1, _ => q159
  | 2, _ => q160
  | 3, _ => q1001
  | 4, _ => q386
  | n + 5, h => absurd h (by omega)
def tJ0_bitCount_0 : List am_En := [(0, .iload_n 0, 1, []), (1, .iload_n 0, 2, []), (2, .iconst 1, 3, []), (3, .iushr, 4, []), (4, .ldc_w 265, 7, []), (7, .iand, 8, []), (8, .isub, 9, []), (9, .istore_n 0, 10, []), (10, .iload_n 0, 11, []), (11, .ldc_w 266, 14, []), (14, .iand, 15, []), (15, .iload_n 0, 16, [])]
theorem kJ0_bitCount_0 : tJ0_bitCount_0.all (am_okE cJ0_bitCount) = true := by decide +kernel
def tJ0_bitCount_1 : List am_En := [(16, .iconst 2, 17, []), (17, .iushr, 18, []), (18, .ldc_w 266, 21, []), (21, .iand, 22, []), (22, .iadd, 23, []), (23, .istore_n 0, 24, []), (24, .iload_n 0, 25, []), (25, .iload_n 0, 26, []), (26, .iconst 4, 27, []), (27, .iushr, 28, []), (28, .iadd, 29, []), (29, .ldc_w 267, 32, [])]
theorem kJ0_bitCount_1 : tJ0_bitCount_1.all (am_okE cJ0_bitCount) = true := by decide +kernel
def tJ0_bitCount_2 : List am_En := [(32, .iand, 33, []), (33, .istore_n 0, 34, []), (34, .iload_n 0, 35, []), (35, .iload_n 0, 36, []), (36, .bipush 8, 38, []), (38, .iushr, 39, []), (39, .iadd, 40, []), (40, .istore_n 0, 41, []), (41, .iload_n 0, 42, []), (42, .iload_n 0, 43, []), (43, .bipush 16, 45, []), (45, .iushr, 46, []), (46, .iadd, 47, []), (47, .istore_n 0, 48, [])]
theorem kJ0_bitCount_2 : tJ0_bitCount_2.all (am_okE cJ0_bitCount) = true := by decide +kernel
def tJ0_bitCount_3 : List am_En := [(48, .iload_n 0, 49, []), (49, .bipush 63, 51, []), (51, .iand, 52, []), (52, .ireturn, 53, [])]
theorem kJ0_bitCount_3 : tJ0_bitCount_3.all (am_okE cJ0_bitCount) = true := by decide +kernel
def tJ0_bitCount : List (List am_En) := [tJ0_bitCount_0, tJ0_bitCount_1, tJ0_bitCount_2, tJ0_bitCount_3]
def mJ0_bitCount : am_MR := (yJ0_bitCount, cJ0_bitCount, 1, (some .int), 11, 1, (0, 0), tJ0_bitCount)
theorem kJ0_bitCount : am_chk cJ0_bitCount tJ0_bitCount = true := am_chk_c kJ0_bitCount_0 (am_chk_c kJ0_bitCount_1 (am_chk_c kJ0_bitCount_2 (am_chk_c kJ0_bitCount_3 (rfl))))
def tJ1_max_0 : List am_En := [(0, .lload_n 0, 1, []), (1, .lload_n 2, 2, []), (2, .lcmp, 3, []), (3, .ifCond .lt 7, 6, [10]), (6, .lload_n 0, 7, []), (7, .goto 4, 10, [11]), (10, .lload_n 2, 11, []), (11, .lreturn, 12, [])]
theorem kJ1_max_0 : tJ1_max_0.all (am_okE cJ1_max) = true := by decide +kernel
def tJ1_max : List (List am_En) := [tJ1_max_0]
def mJ1_max : am_MR := (yJ1_max, cJ1_max, 4, (some .long), 12, 2, (0, 0), tJ1_max)
theorem kJ1_max : am_chk cJ1_max tJ1_max = true := am_chk_c kJ1_max_0 (rfl)
def tJ1_min_0 : List am_En := [(0, .lload_n 0, 1, []), (1, .lload_n 2, 2, []), (2, .lcmp, 3, []), (3, .ifCond .gt 7, 6, [10]), (6, .lload_n 0, 7, []), (7, .goto 4, 10, [11]), (10, .lload_n 2, 11, []), (11, .lreturn, 12, [])]
theorem kJ1_min_0 : tJ1_min_0.all (am_okE cJ1_min) = true := by decide +kernel
def tJ1_min : List (List am_En) := [tJ1_min_0]
def mJ1_min : am_MR := (yJ1_min, cJ1_min, 4, (some .long), 12, 2, (0, 0), tJ1_min)
theorem kJ1_min : am_chk cJ1_min tJ1_min = true := am_chk_c kJ1_min_0 (rfl)
def tJ1_min_2_0 : List am_En := [(0, .iload_n 0, 1, []), (1, .iload_n 1, 2, []), (2, .if_icmp .gt 7, 5, [9]), (5, .iload_n 0, 6, []), (6, .goto 4, 9, [10]), (9, .iload_n 1, 10, []), (10, .ireturn, 11, [])]
theorem kJ1_min_2_0 : tJ1_min_2_0.all (am_okE cJ1_min_2) = true := by decide +kernel
def tJ1_min_2 : List (List am_En) := [tJ1_min_2_0]
def mJ1_min_2 : am_MR := (yJ1_min_2, cJ1_min_2, 2, (some .int), 12, 2, (0, 0), tJ1_min_2)
theorem kJ1_min_2 : am_chk cJ1_min_2 tJ1_min_2 = true := am_chk_c kJ1_min_2_0 (rfl)
def tL_law_0 : List am_En := [(0, .new 7, 3, []), (3, .dup, 4, []), (4, .invokespecial 9, 7, []), (7, .astore_n 1, 8, []), (8, .new 10, 11, []), (11, .dup, 12, []), (12, .invokespecial 12, 15, []), (15, .astore_n 2, 16, [])]
theorem kL_law_0 : tL_law_0.all (am_okE cL_law) = true := by decide +kernel
def tL_law_1 : List am_En := [(16, .iconst 0, 17, []), (17, .istore_n 3, 18, []), (18, .iload_n 3, 19, []), (19, .aload_n 0, 20, []), (20, .arraylength, 21, []), (21, .bipush 6, 23, []), (23, .isub, 24, []), (24, .if_icmp .gt 1124, 27, [1148]), (27, .aload_n 0, 28, []), (28, .iload_n 3, 29, []), (29, .iaload, 30, []), (30, .bipush 31, 32, [])]
theorem kL_law_1 : tL_law_1.all (am_okE cL_law) = true := by decide +kernel
def tL_law_2 : List am_En := [(32, .iand, 33, []), (33, .tableswitch 1109 0 28 #[131, 154, 217, 240, 263, 296, 339, 362, 405, 448, 471, 514, 537, 580, 623, 646, 679, 712, 755, 788, 831, 874, 897, 930, 983, 996, 1029, 1052, 1086], 164, [1142, 164, 187, 250, 273, 296, 329, 372, 395, 438, 481, 504, 547, 570, 613, 656, 679, 712, 745, 788, 821, 864, 907, 930, 963, 1016, 1029, 1062, 1085, 1119])]
theorem kL_law_2 : tL_law_2.all (am_okE cL_law) = true := by decide +kernel
def tL_law_3 : List am_En := []
theorem kL_law_3 : tL_law_3.all (am_okE cL_law) = true := by decide +kernel
def tL_law_4 : List am_En := []
theorem kL_law_4 : tL_law_4.all (am_okE cL_law) = true := by decide +kernel
def tL_law_5 : List am_En := []
theorem kL_law_5 : tL_law_5.all (am_okE cL_law) = true := by decide +kernel
def tL_law_6 : List am_En := []
theorem kL_law_6 : tL_law_6.all (am_okE cL_law) = true := by decide +kernel
def tL_law_7 : List am_En := []
theorem kL_law_7 : tL_law_7.all (am_okE cL_law) = true := by decide +kernel
def tL_law_8 : List am_En := []
theorem kL_law_8 : tL_law_8.all (am_okE cL_law) = true := by decide +kernel
def tL_law_9 : List am_En := []
theorem kL_law_9 : tL_law_9.all (am_okE cL_law) = true := by decide +kernel
def tL_law_10 : List am_En := [(164, .aload_n 1, 165, []), (165, .aload_n 0, 166, []), (166, .iload_n 3, 167, []), (167, .iconst 1, 168, []), (168, .iadd, 169, []), (169, .iaload, 170, []), (170, .invokevirtual 13, 173, []), (173, .aload_n 2, 174, []), (174, .aload_n 0, 175, []), (175, .iload_n 3, 176, [])]
theorem kL_law_10 : tL_law_10.all (am_okE cL_law) = true := by decide +kernel
def tL_law_11 : List am_En := [(176, .iconst 1, 177, []), (177, .iadd, 178, []), (178, .iaload, 179, []), (179, .invokevirtual 17, 182, []), (182, .if_icmp .eq 960, 185, [1142]), (185, .iconst 0, 186, []), (186, .ireturn, 187, []), (187, .aload_n 1, 188, []), (188, .aload_n 0, 189, []), (189, .iload_n 3, 190, []), (190, .iconst 1, 191, []), (191, .iadd, 192, [])]
theorem kL_law_11 : tL_law_11.all (am_okE cL_law) = true := by decide +kernel
def tL_law_12 : List am_En := [(192, .iaload, 193, []), (193, .aload_n 0, 194, []), (194, .iload_n 3, 195, []), (195, .iconst 2, 196, []), (196, .iadd, 197, []), (197, .iaload, 198, []), (198, .aload_n 0, 199, []), (199, .iload_n 3, 200, []), (200, .iconst 3, 201, []), (201, .iadd, 202, []), (202, .iaload, 203, []), (203, .aload_n 0, 204, []), (204, .iload_n 3, 205, []), (205, .iconst 4, 206, []), (206, .iadd, 207, []), (207, .iaload, 208, [])]
theorem kL_law_12 : tL_law_12.all (am_okE cL_law) = true := by decide +kernel
def tL_law_13 : List am_En := [(208, .aload_n 0, 209, []), (209, .iload_n 3, 210, []), (210, .iconst 5, 211, []), (211, .iadd, 212, []), (212, .iaload, 213, []), (213, .invokevirtual 18, 216, []), (216, .aload_n 2, 217, []), (217, .aload_n 0, 218, []), (218, .iload_n 3, 219, []), (219, .iconst 1, 220, []), (220, .iadd, 221, []), (221, .iaload, 222, []), (222, .aload_n 0, 223, []), (223, .iload_n 3, 224, [])]
theorem kL_law_13 : tL_law_13.all (am_okE cL_law) = true := by decide +kernel
def tL_law_14 : List am_En := [(224, .iconst 2, 225, []), (225, .iadd, 226, []), (226, .iaload, 227, []), (227, .aload_n 0, 228, []), (228, .iload_n 3, 229, []), (229, .iconst 3, 230, []), (230, .iadd, 231, []), (231, .iaload, 232, []), (232, .aload_n 0, 233, []), (233, .iload_n 3, 234, []), (234, .iconst 4, 235, []), (235, .iadd, 236, []), (236, .iaload, 237, []), (237, .aload_n 0, 238, []), (238, .iload_n 3, 239, []), (239, .iconst 5, 240, [])]
theorem kL_law_14 : tL_law_14.all (am_okE cL_law) = true := by decide +kernel
def tL_law_15 : List am_En := [(240, .iadd, 241, []), (241, .iaload, 242, []), (242, .invokevirtual 22, 245, []), (245, .if_icmp .eq 897, 248, [1142]), (248, .iconst 0, 249, []), (249, .ireturn, 250, []), (250, .aload_n 1, 251, []), (251, .aload_n 0, 252, []), (252, .iload_n 3, 253, []), (253, .iconst 1, 254, []), (254, .iadd, 255, []), (255, .iaload, 256, [])]
theorem kL_law_15 : tL_law_15.all (am_okE cL_law) = true := by decide +kernel
def tL_law_16 : List am_En := [(256, .invokevirtual 23, 259, []), (259, .aload_n 2, 260, []), (260, .aload_n 0, 261, []), (261, .iload_n 3, 262, []), (262, .iconst 1, 263, []), (263, .iadd, 264, []), (264, .iaload, 265, []), (265, .invokevirtual 26, 268, []), (268, .if_icmp .eq 874, 271, [1142]), (271, .iconst 0, 272, [])]
theorem kL_law_16 : tL_law_16.all (am_okE cL_law) = true := by decide +kernel
def tL_law_17 : List am_En := [(272, .ireturn, 273, []), (273, .aload_n 1, 274, []), (274, .aload_n 0, 275, []), (275, .iload_n 3, 276, []), (276, .iconst 1, 277, []), (277, .iadd, 278, []), (278, .iaload, 279, []), (279, .invokevirtual 27, 282, []), (282, .aload_n 2, 283, []), (283, .aload_n 0, 284, []), (284, .iload_n 3, 285, []), (285, .iconst 1, 286, []), (286, .iadd, 287, []), (287, .iaload, 288, [])]
theorem kL_law_17 : tL_law_17.all (am_okE cL_law) = true := by decide +kernel
def tL_law_18 : List am_En := [(288, .invokevirtual 30, 291, []), (291, .if_icmp .eq 851, 294, [1142]), (294, .iconst 0, 295, []), (295, .ireturn, 296, []), (296, .aload_n 1, 297, []), (297, .aload_n 0, 298, []), (298, .iload_n 3, 299, []), (299, .iconst 1, 300, []), (300, .iadd, 301, []), (301, .iaload, 302, []), (302, .aload_n 0, 303, []), (303, .iload_n 3, 304, [])]
theorem kL_law_18 : tL_law_18.all (am_okE cL_law) = true := by decide +kernel
def tL_law_19 : List am_En := [(304, .iconst 2, 305, []), (305, .iadd, 306, []), (306, .iaload, 307, []), (307, .invokevirtual 31, 310, []), (310, .aload_n 2, 311, []), (311, .aload_n 0, 312, []), (312, .iload_n 3, 313, []), (313, .iconst 1, 314, []), (314, .iadd, 315, []), (315, .iaload, 316, []), (316, .aload_n 0, 317, []), (317, .iload_n 3, 318, []), (318, .iconst 2, 319, []), (319, .iadd, 320, [])]
theorem kL_law_19 : tL_law_19.all (am_okE cL_law) = true := by decide +kernel
def tL_law_20 : List am_En := [(320, .iaload, 321, []), (321, .invokevirtual 35, 324, []), (324, .if_icmp .eq 818, 327, [1142]), (327, .iconst 0, 328, []), (328, .ireturn, 329, []), (329, .aload_n 1, 330, []), (330, .aload_n 0, 331, []), (331, .iload_n 3, 332, []), (332, .iconst 1, 333, []), (333, .iadd, 334, []), (334, .iaload, 335, []), (335, .aload_n 0, 336, [])]
theorem kL_law_20 : tL_law_20.all (am_okE cL_law) = true := by decide +kernel
def tL_law_21 : List am_En := [(336, .iload_n 3, 337, []), (337, .iconst 2, 338, []), (338, .iadd, 339, []), (339, .iaload, 340, []), (340, .aload_n 0, 341, []), (341, .iload_n 3, 342, []), (342, .iconst 3, 343, []), (343, .iadd, 344, []), (344, .iaload, 345, []), (345, .invokevirtual 36, 348, []), (348, .aload_n 2, 349, []), (349, .aload_n 0, 350, []), (350, .iload_n 3, 351, []), (351, .iconst 1, 352, [])]
theorem kL_law_21 : tL_law_21.all (am_okE cL_law) = true := by decide +kernel
def tL_law_22 : List am_En := [(352, .iadd, 353, []), (353, .iaload, 354, []), (354, .aload_n 0, 355, []), (355, .iload_n 3, 356, []), (356, .iconst 2, 357, []), (357, .iadd, 358, []), (358, .iaload, 359, []), (359, .aload_n 0, 360, []), (360, .iload_n 3, 361, []), (361, .iconst 3, 362, []), (362, .iadd, 363, []), (363, .iaload, 364, []), (364, .invokevirtual 40, 367, []), (367, .if_icmp .eq 775, 370, [1142])]
theorem kL_law_22 : tL_law_22.all (am_okE cL_law) = true := by decide +kernel
def tL_law_23 : List am_En := [(370, .iconst 0, 371, []), (371, .ireturn, 372, []), (372, .aload_n 1, 373, []), (373, .aload_n 0, 374, []), (374, .iload_n 3, 375, []), (375, .iconst 1, 376, []), (376, .iadd, 377, []), (377, .iaload, 378, []), (378, .invokevirtual 41, 381, []), (381, .aload_n 2, 382, []), (382, .aload_n 0, 383, []), (383, .iload_n 3, 384, [])]
theorem kL_law_23 : tL_law_23.all (am_okE cL_law) = true := by decide +kernel
def tL_law_24 : List am_En := [(384, .iconst 1, 385, []), (385, .iadd, 386, []), (386, .iaload, 387, []), (387, .invokevirtual 44, 390, []), (390, .if_icmp .eq 752, 393, [1142]), (393, .iconst 0, 394, []), (394, .ireturn, 395, []), (395, .aload_n 1, 396, []), (396, .aload_n 0, 397, []), (397, .iload_n 3, 398, []), (398, .iconst 1, 399, []), (399, .iadd, 400, [])]
theorem kL_law_24 : tL_law_24.all (am_okE cL_law) = true := by decide +kernel
def tL_law_25 : List am_En := [(400, .iaload, 401, []), (401, .aload_n 0, 402, []), (402, .iload_n 3, 403, []), (403, .iconst 2, 404, []), (404, .iadd, 405, []), (405, .iaload, 406, []), (406, .aload_n 0, 407, []), (407, .iload_n 3, 408, []), (408, .iconst 3, 409, []), (409, .iadd, 410, []), (410, .iaload, 411, []), (411, .invokevirtual 45, 414, []), (414, .aload_n 2, 415, []), (415, .aload_n 0, 416, [])]
theorem kL_law_25 : tL_law_25.all (am_okE cL_law) = true := by decide +kernel
def tL_law_26 : List am_En := [(416, .iload_n 3, 417, []), (417, .iconst 1, 418, []), (418, .iadd, 419, []), (419, .iaload, 420, []), (420, .aload_n 0, 421, []), (421, .iload_n 3, 422, []), (422, .iconst 2, 423, []), (423, .iadd, 424, []), (424, .iaload, 425, []), (425, .aload_n 0, 426, []), (426, .iload_n 3, 427, []), (427, .iconst 3, 428, []), (428, .iadd, 429, []), (429, .iaload, 430, []), (430, .invokevirtual 48, 433, [])]
theorem kL_law_26 : tL_law_26.all (am_okE cL_law) = true := by decide +kernel
def tL_law_27 : List am_En := [(433, .if_icmp .eq 709, 436, [1142]), (436, .iconst 0, 437, []), (437, .ireturn, 438, []), (438, .aload_n 1, 439, []), (439, .aload_n 0, 440, []), (440, .iload_n 3, 441, []), (441, .iconst 1, 442, []), (442, .iadd, 443, []), (443, .iaload, 444, []), (444, .aload_n 0, 445, []), (445, .iload_n 3, 446, []), (446, .iconst 2, 447, []), (447, .iadd, 448, [])]
theorem kL_law_27 : tL_law_27.all (am_okE cL_law) = true := by decide +kernel
def tL_law_28 : List am_En := [(448, .iaload, 449, []), (449, .aload_n 0, 450, []), (450, .iload_n 3, 451, []), (451, .iconst 3, 452, []), (452, .iadd, 453, []), (453, .iaload, 454, []), (454, .invokevirtual 49, 457, []), (457, .aload_n 2, 458, []), (458, .aload_n 0, 459, []), (459, .iload_n 3, 460, []), (460, .iconst 1, 461, []), (461, .iadd, 462, []), (462, .iaload, 463, []), (463, .aload_n 0, 464, [])]
theorem kL_law_28 : tL_law_28.all (am_okE cL_law) = true := by decide +kernel
def tL_law_29 : List am_En := [(464, .iload_n 3, 465, []), (465, .iconst 2, 466, []), (466, .iadd, 467, []), (467, .iaload, 468, []), (468, .aload_n 0, 469, []), (469, .iload_n 3, 470, []), (470, .iconst 3, 471, []), (471, .iadd, 472, []), (472, .iaload, 473, []), (473, .invokevirtual 52, 476, []), (476, .if_icmp .eq 666, 479, [1142]), (479, .iconst 0, 480, [])]
theorem kL_law_29 : tL_law_29.all (am_okE cL_law) = true := by decide +kernel
def tL_law_30 : List am_En := [(480, .ireturn, 481, []), (481, .aload_n 1, 482, []), (482, .aload_n 0, 483, []), (483, .iload_n 3, 484, []), (484, .iconst 1, 485, []), (485, .iadd, 486, []), (486, .iaload, 487, []), (487, .invokevirtual 53, 490, []), (490, .aload_n 2, 491, []), (491, .aload_n 0, 492, []), (492, .iload_n 3, 493, []), (493, .iconst 1, 494, []), (494, .iadd, 495, []), (495, .iaload, 496, [])]
theorem kL_law_30 : tL_law_30.all (am_okE cL_law) = true := by decide +kernel
def tL_law_31 : List am_En := [(496, .invokevirtual 56, 499, []), (499, .if_icmp .eq 643, 502, [1142]), (502, .iconst 0, 503, []), (503, .ireturn, 504, []), (504, .aload_n 1, 505, []), (505, .aload_n 0, 506, []), (506, .iload_n 3, 507, []), (507, .iconst 1, 508, []), (508, .iadd, 509, []), (509, .iaload, 510, []), (510, .aload_n 0, 511, []), (511, .iload_n 3, 512, [])]
theorem kL_law_31 : tL_law_31.all (am_okE cL_law) = true := by decide +kernel
def tL_law_32 : List am_En := [(512, .iconst 2, 513, []), (513, .iadd, 514, []), (514, .iaload, 515, []), (515, .aload_n 0, 516, []), (516, .iload_n 3, 517, []), (517, .iconst 3, 518, []), (518, .iadd, 519, []), (519, .iaload, 520, []), (520, .invokevirtual 57, 523, []), (523, .aload_n 2, 524, []), (524, .aload_n 0, 525, []), (525, .iload_n 3, 526, []), (526, .iconst 1, 527, []), (527, .iadd, 528, [])]
theorem kL_law_32 : tL_law_32.all (am_okE cL_law) = true := by decide +kernel
def tL_law_33 : List am_En := [(528, .iaload, 529, []), (529, .aload_n 0, 530, []), (530, .iload_n 3, 531, []), (531, .iconst 2, 532, []), (532, .iadd, 533, []), (533, .iaload, 534, []), (534, .aload_n 0, 535, []), (535, .iload_n 3, 536, []), (536, .iconst 3, 537, []), (537, .iadd, 538, []), (538, .iaload, 539, []), (539, .invokevirtual 60, 542, []), (542, .if_icmp .eq 600, 545, [1142])]
theorem kL_law_33 : tL_law_33.all (am_okE cL_law) = true := by decide +kernel
def tL_law_34 : List am_En := [(545, .iconst 0, 546, []), (546, .ireturn, 547, []), (547, .aload_n 1, 548, []), (548, .aload_n 0, 549, []), (549, .iload_n 3, 550, []), (550, .iconst 1, 551, []), (551, .iadd, 552, []), (552, .iaload, 553, []), (553, .invokevirtual 61, 556, []), (556, .aload_n 2, 557, []), (557, .aload_n 0, 558, []), (558, .iload_n 3, 559, []), (559, .iconst 1, 560, [])]
theorem kL_law_34 : tL_law_34.all (am_okE cL_law) = true := by decide +kernel
def tL_law_35 : List am_En := [(560, .iadd, 561, []), (561, .iaload, 562, []), (562, .invokevirtual 64, 565, []), (565, .if_icmp .eq 577, 568, [1142]), (568, .iconst 0, 569, []), (569, .ireturn, 570, []), (570, .aload_n 1, 571, []), (571, .aload_n 0, 572, []), (572, .iload_n 3, 573, []), (573, .iconst 1, 574, []), (574, .iadd, 575, []), (575, .iaload, 576, [])]
theorem kL_law_35 : tL_law_35.all (am_okE cL_law) = true := by decide +kernel
def tL_law_36 : List am_En := [(576, .aload_n 0, 577, []), (577, .iload_n 3, 578, []), (578, .iconst 2, 579, []), (579, .iadd, 580, []), (580, .iaload, 581, []), (581, .aload_n 0, 582, []), (582, .iload_n 3, 583, []), (583, .iconst 3, 584, []), (584, .iadd, 585, []), (585, .iaload, 586, []), (586, .invokevirtual 65, 589, []), (589, .aload_n 2, 590, []), (590, .aload_n 0, 591, []), (591, .iload_n 3, 592, [])]
theorem kL_law_36 : tL_law_36.all (am_okE cL_law) = true := by decide +kernel
def tL_law_37 : List am_En := [(592, .iconst 1, 593, []), (593, .iadd, 594, []), (594, .iaload, 595, []), (595, .aload_n 0, 596, []), (596, .iload_n 3, 597, []), (597, .iconst 2, 598, []), (598, .iadd, 599, []), (599, .iaload, 600, []), (600, .aload_n 0, 601, []), (601, .iload_n 3, 602, []), (602, .iconst 3, 603, []), (603, .iadd, 604, []), (604, .iaload, 605, []), (605, .invokevirtual 68, 608, [])]
theorem kL_law_37 : tL_law_37.all (am_okE cL_law) = true := by decide +kernel
def tL_law_38 : List am_En := [(608, .if_icmp .eq 534, 611, [1142]), (611, .iconst 0, 612, []), (612, .ireturn, 613, []), (613, .aload_n 1, 614, []), (614, .aload_n 0, 615, []), (615, .iload_n 3, 616, []), (616, .iconst 1, 617, []), (617, .iadd, 618, []), (618, .iaload, 619, []), (619, .aload_n 0, 620, []), (620, .iload_n 3, 621, []), (621, .iconst 2, 622, []), (622, .iadd, 623, []), (623, .iaload, 624, [])]
theorem kL_law_38 : tL_law_38.all (am_okE cL_law) = true := by decide +kernel
def tL_law_39 : List am_En := [(624, .aload_n 0, 625, []), (625, .iload_n 3, 626, []), (626, .iconst 3, 627, []), (627, .iadd, 628, []), (628, .iaload, 629, []), (629, .invokevirtual 69, 632, []), (632, .aload_n 2, 633, []), (633, .aload_n 0, 634, []), (634, .iload_n 3, 635, []), (635, .iconst 1, 636, []), (636, .iadd, 637, []), (637, .iaload, 638, []), (638, .aload_n 0, 639, []), (639, .iload_n 3, 640, [])]
theorem kL_law_39 : tL_law_39.all (am_okE cL_law) = true := by decide +kernel
def tL_law_40 : List am_En := [(640, .iconst 2, 641, []), (641, .iadd, 642, []), (642, .iaload, 643, []), (643, .aload_n 0, 644, []), (644, .iload_n 3, 645, []), (645, .iconst 3, 646, []), (646, .iadd, 647, []), (647, .iaload, 648, []), (648, .invokevirtual 72, 651, []), (651, .if_icmp .eq 491, 654, [1142]), (654, .iconst 0, 655, []), (655, .ireturn, 656, [])]
theorem kL_law_40 : tL_law_40.all (am_okE cL_law) = true := by decide +kernel
def tL_law_41 : List am_En := [(656, .aload_n 1, 657, []), (657, .aload_n 0, 658, []), (658, .iload_n 3, 659, []), (659, .iconst 1, 660, []), (660, .iadd, 661, []), (661, .iaload, 662, []), (662, .invokevirtual 73, 665, []), (665, .aload_n 2, 666, []), (666, .aload_n 0, 667, []), (667, .iload_n 3, 668, []), (668, .iconst 1, 669, []), (669, .iadd, 670, []), (670, .iaload, 671, []), (671, .invokevirtual 76, 674, [])]
theorem kL_law_41 : tL_law_41.all (am_okE cL_law) = true := by decide +kernel
def tL_law_42 : List am_En := [(674, .if_icmp .eq 468, 677, [1142]), (677, .iconst 0, 678, []), (678, .ireturn, 679, []), (679, .aload_n 1, 680, []), (680, .aload_n 0, 681, []), (681, .iload_n 3, 682, []), (682, .iconst 1, 683, []), (683, .iadd, 684, []), (684, .iaload, 685, []), (685, .aload_n 0, 686, []), (686, .iload_n 3, 687, []), (687, .iconst 2, 688, [])]
theorem kL_law_42 : tL_law_42.all (am_okE cL_law) = true := by decide +kernel
def tL_law_43 : List am_En := [(688, .iadd, 689, []), (689, .iaload, 690, []), (690, .invokevirtual 77, 693, []), (693, .aload_n 2, 694, []), (694, .aload_n 0, 695, []), (695, .iload_n 3, 696, []), (696, .iconst 1, 697, []), (697, .iadd, 698, []), (698, .iaload, 699, []), (699, .aload_n 0, 700, []), (700, .iload_n 3, 701, []), (701, .iconst 2, 702, []), (702, .iadd, 703, []), (703, .iaload, 704, [])]
theorem kL_law_43 : tL_law_43.all (am_okE cL_law) = true := by decide +kernel
def tL_law_44 : List am_En := [(704, .invokevirtual 80, 707, []), (707, .if_icmp .eq 435, 710, [1142]), (710, .iconst 0, 711, []), (711, .ireturn, 712, []), (712, .aload_n 1, 713, []), (713, .aload_n 0, 714, []), (714, .iload_n 3, 715, []), (715, .iconst 1, 716, []), (716, .iadd, 717, []), (717, .iaload, 718, []), (718, .aload_n 0, 719, []), (719, .iload_n 3, 720, [])]
theorem kL_law_44 : tL_law_44.all (am_okE cL_law) = true := by decide +kernel
def tL_law_45 : List am_En := [(720, .iconst 2, 721, []), (721, .iadd, 722, []), (722, .iaload, 723, []), (723, .invokevirtual 81, 726, []), (726, .aload_n 2, 727, []), (727, .aload_n 0, 728, []), (728, .iload_n 3, 729, []), (729, .iconst 1, 730, []), (730, .iadd, 731, []), (731, .iaload, 732, []), (732, .aload_n 0, 733, []), (733, .iload_n 3, 734, []), (734, .iconst 2, 735, []), (735, .iadd, 736, [])]
theorem kL_law_45 : tL_law_45.all (am_okE cL_law) = true := by decide +kernel
def tL_law_46 : List am_En := [(736, .iaload, 737, []), (737, .invokevirtual 84, 740, []), (740, .if_icmp .eq 402, 743, [1142]), (743, .iconst 0, 744, []), (744, .ireturn, 745, []), (745, .aload_n 1, 746, []), (746, .aload_n 0, 747, []), (747, .iload_n 3, 748, []), (748, .iconst 1, 749, []), (749, .iadd, 750, []), (750, .iaload, 751, []), (751, .aload_n 0, 752, [])]
theorem kL_law_46 : tL_law_46.all (am_okE cL_law) = true := by decide +kernel
def tL_law_47 : List am_En := [(752, .iload_n 3, 753, []), (753, .iconst 2, 754, []), (754, .iadd, 755, []), (755, .iaload, 756, []), (756, .aload_n 0, 757, []), (757, .iload_n 3, 758, []), (758, .iconst 3, 759, []), (759, .iadd, 760, []), (760, .iaload, 761, []), (761, .invokevirtual 85, 764, []), (764, .aload_n 2, 765, []), (765, .aload_n 0, 766, []), (766, .iload_n 3, 767, []), (767, .iconst 1, 768, [])]
theorem kL_law_47 : tL_law_47.all (am_okE cL_law) = true := by decide +kernel
def tL_law_48 : List am_En := [(768, .iadd, 769, []), (769, .iaload, 770, []), (770, .aload_n 0, 771, []), (771, .iload_n 3, 772, []), (772, .iconst 2, 773, []), (773, .iadd, 774, []), (774, .iaload, 775, []), (775, .aload_n 0, 776, []), (776, .iload_n 3, 777, []), (777, .iconst 3, 778, []), (778, .iadd, 779, []), (779, .iaload, 780, []), (780, .invokevirtual 88, 783, []), (783, .if_icmp .eq 359, 786, [1142])]
theorem kL_law_48 : tL_law_48.all (am_okE cL_law) = true := by decide +kernel
def tL_law_49 : List am_En := [(786, .iconst 0, 787, []), (787, .ireturn, 788, []), (788, .aload_n 1, 789, []), (789, .aload_n 0, 790, []), (790, .iload_n 3, 791, []), (791, .iconst 1, 792, []), (792, .iadd, 793, []), (793, .iaload, 794, []), (794, .aload_n 0, 795, []), (795, .iload_n 3, 796, []), (796, .iconst 2, 797, []), (797, .iadd, 798, []), (798, .iaload, 799, []), (799, .invokevirtual 89, 802, [])]
theorem kL_law_49 : tL_law_49.all (am_okE cL_law) = true := by decide +kernel
def tL_law_50 : List am_En := [(802, .aload_n 2, 803, []), (803, .aload_n 0, 804, []), (804, .iload_n 3, 805, []), (805, .iconst 1, 806, []), (806, .iadd, 807, []), (807, .iaload, 808, []), (808, .aload_n 0, 809, []), (809, .iload_n 3, 810, []), (810, .iconst 2, 811, []), (811, .iadd, 812, []), (812, .iaload, 813, []), (813, .invokevirtual 92, 816, [])]
theorem kL_law_50 : tL_law_50.all (am_okE cL_law) = true := by decide +kernel
def tL_law_51 : List am_En := [(816, .if_icmp .eq 326, 819, [1142]), (819, .iconst 0, 820, []), (820, .ireturn, 821, []), (821, .aload_n 1, 822, []), (822, .aload_n 0, 823, []), (823, .iload_n 3, 824, []), (824, .iconst 1, 825, []), (825, .iadd, 826, []), (826, .iaload, 827, []), (827, .aload_n 0, 828, []), (828, .iload_n 3, 829, []), (829, .iconst 2, 830, []), (830, .iadd, 831, []), (831, .iaload, 832, [])]
theorem kL_law_51 : tL_law_51.all (am_okE cL_law) = true := by decide +kernel
def tL_law_52 : List am_En := [(832, .aload_n 0, 833, []), (833, .iload_n 3, 834, []), (834, .iconst 3, 835, []), (835, .iadd, 836, []), (836, .iaload, 837, []), (837, .invokevirtual 93, 840, []), (840, .aload_n 2, 841, []), (841, .aload_n 0, 842, []), (842, .iload_n 3, 843, []), (843, .iconst 1, 844, []), (844, .iadd, 845, []), (845, .iaload, 846, []), (846, .aload_n 0, 847, []), (847, .iload_n 3, 848, [])]
theorem kL_law_52 : tL_law_52.all (am_okE cL_law) = true := by decide +kernel
def tL_law_53 : List am_En := [(848, .iconst 2, 849, []), (849, .iadd, 850, []), (850, .iaload, 851, []), (851, .aload_n 0, 852, []), (852, .iload_n 3, 853, []), (853, .iconst 3, 854, []), (854, .iadd, 855, []), (855, .iaload, 856, []), (856, .invokevirtual 96, 859, []), (859, .if_icmp .eq 283, 862, [1142]), (862, .iconst 0, 863, []), (863, .ireturn, 864, [])]
theorem kL_law_53 : tL_law_53.all (am_okE cL_law) = true := by decide +kernel
def tL_law_54 : List am_En := [(864, .aload_n 1, 865, []), (865, .aload_n 0, 866, []), (866, .iload_n 3, 867, []), (867, .iconst 1, 868, []), (868, .iadd, 869, []), (869, .iaload, 870, []), (870, .aload_n 0, 871, []), (871, .iload_n 3, 872, []), (872, .iconst 2, 873, []), (873, .iadd, 874, []), (874, .iaload, 875, []), (875, .aload_n 0, 876, []), (876, .iload_n 3, 877, []), (877, .iconst 3, 878, []), (878, .iadd, 879, []), (879, .iaload, 880, [])]
theorem kL_law_54 : tL_law_54.all (am_okE cL_law) = true := by decide +kernel
def tL_law_55 : List am_En := [(880, .invokevirtual 97, 883, []), (883, .aload_n 2, 884, []), (884, .aload_n 0, 885, []), (885, .iload_n 3, 886, []), (886, .iconst 1, 887, []), (887, .iadd, 888, []), (888, .iaload, 889, []), (889, .aload_n 0, 890, []), (890, .iload_n 3, 891, []), (891, .iconst 2, 892, []), (892, .iadd, 893, []), (893, .iaload, 894, []), (894, .aload_n 0, 895, []), (895, .iload_n 3, 896, [])]
theorem kL_law_55 : tL_law_55.all (am_okE cL_law) = true := by decide +kernel
def tL_law_56 : List am_En := [(896, .iconst 3, 897, []), (897, .iadd, 898, []), (898, .iaload, 899, []), (899, .invokevirtual 100, 902, []), (902, .if_icmp .eq 240, 905, [1142]), (905, .iconst 0, 906, []), (906, .ireturn, 907, []), (907, .aload_n 1, 908, []), (908, .aload_n 0, 909, []), (909, .iload_n 3, 910, []), (910, .iconst 1, 911, []), (911, .iadd, 912, [])]
theorem kL_law_56 : tL_law_56.all (am_okE cL_law) = true := by decide +kernel
def tL_law_57 : List am_En := [(912, .iaload, 913, []), (913, .invokevirtual 101, 916, []), (916, .aload_n 2, 917, []), (917, .aload_n 0, 918, []), (918, .iload_n 3, 919, []), (919, .iconst 1, 920, []), (920, .iadd, 921, []), (921, .iaload, 922, []), (922, .invokevirtual 104, 925, []), (925, .if_icmp .eq 217, 928, [1142])]
theorem kL_law_57 : tL_law_57.all (am_okE cL_law) = true := by decide +kernel
def tL_law_58 : List am_En := [(928, .iconst 0, 929, []), (929, .ireturn, 930, []), (930, .aload_n 1, 931, []), (931, .aload_n 0, 932, []), (932, .iload_n 3, 933, []), (933, .iconst 1, 934, []), (934, .iadd, 935, []), (935, .iaload, 936, []), (936, .aload_n 0, 937, []), (937, .iload_n 3, 938, []), (938, .iconst 2, 939, []), (939, .iadd, 940, []), (940, .iaload, 941, []), (941, .invokevirtual 105, 944, [])]
theorem kL_law_58 : tL_law_58.all (am_okE cL_law) = true := by decide +kernel
def tL_law_59 : List am_En := [(944, .aload_n 2, 945, []), (945, .aload_n 0, 946, []), (946, .iload_n 3, 947, []), (947, .iconst 1, 948, []), (948, .iadd, 949, []), (949, .iaload, 950, []), (950, .aload_n 0, 951, []), (951, .iload_n 3, 952, []), (952, .iconst 2, 953, []), (953, .iadd, 954, []), (954, .iaload, 955, []), (955, .invokevirtual 108, 958, []), (958, .if_icmp .eq 184, 961, [1142])]
theorem kL_law_59 : tL_law_59.all (am_okE cL_law) = true := by decide +kernel
def tL_law_60 : List am_En := [(961, .iconst 0, 962, []), (962, .ireturn, 963, []), (963, .aload_n 1, 964, []), (964, .aload_n 0, 965, []), (965, .iload_n 3, 966, []), (966, .iconst 1, 967, []), (967, .iadd, 968, []), (968, .iaload, 969, []), (969, .aload_n 0, 970, []), (970, .iload_n 3, 971, []), (971, .iconst 2, 972, []), (972, .iadd, 973, []), (973, .iaload, 974, []), (974, .aload_n 0, 975, []), (975, .iload_n 3, 976, [])]
theorem kL_law_60 : tL_law_60.all (am_okE cL_law) = true := by decide +kernel
def tL_law_61 : List am_En := [(976, .iconst 3, 977, []), (977, .iadd, 978, []), (978, .iaload, 979, []), (979, .aload_n 0, 980, []), (980, .iload_n 3, 981, []), (981, .iconst 4, 982, []), (982, .iadd, 983, []), (983, .iaload, 984, []), (984, .invokevirtual 109, 987, []), (987, .aload_n 2, 988, []), (988, .aload_n 0, 989, []), (989, .iload_n 3, 990, []), (990, .iconst 1, 991, []), (991, .iadd, 992, [])]
theorem kL_law_61 : tL_law_61.all (am_okE cL_law) = true := by decide +kernel
def tL_law_62 : List am_En := [(992, .iaload, 993, []), (993, .aload_n 0, 994, []), (994, .iload_n 3, 995, []), (995, .iconst 2, 996, []), (996, .iadd, 997, []), (997, .iaload, 998, []), (998, .aload_n 0, 999, []), (999, .iload_n 3, 1000, []), (1000, .iconst 3, 1001, []), (1001, .iadd, 1002, []), (1002, .iaload, 1003, []), (1003, .aload_n 0, 1004, []), (1004, .iload_n 3, 1005, []), (1005, .iconst 4, 1006, []), (1006, .iadd, 1007, []), (1007, .iaload, 1008, [])]
theorem kL_law_62 : tL_law_62.all (am_okE cL_law) = true := by decide +kernel
def tL_law_63 : List am_En := [(1008, .invokevirtual 113, 1011, []), (1011, .if_icmp .eq 131, 1014, [1142]), (1014, .iconst 0, 1015, []), (1015, .ireturn, 1016, []), (1016, .aload_n 1, 1017, []), (1017, .invokevirtual 114, 1020, []), (1020, .aload_n 2, 1021, []), (1021, .invokevirtual 118, 1024, [])]
theorem kL_law_63 : tL_law_63.all (am_okE cL_law) = true := by decide +kernel
def tL_law_64 : List am_En := [(1024, .if_icmp .eq 118, 1027, [1142]), (1027, .iconst 0, 1028, []), (1028, .ireturn, 1029, []), (1029, .aload_n 1, 1030, []), (1030, .aload_n 0, 1031, []), (1031, .iload_n 3, 1032, []), (1032, .iconst 1, 1033, []), (1033, .iadd, 1034, []), (1034, .iaload, 1035, []), (1035, .aload_n 0, 1036, []), (1036, .iload_n 3, 1037, []), (1037, .iconst 2, 1038, []), (1038, .iadd, 1039, []), (1039, .iaload, 1040, [])]
theorem kL_law_64 : tL_law_64.all (am_okE cL_law) = true := by decide +kernel
def tL_law_65 : List am_En := [(1040, .invokevirtual 119, 1043, []), (1043, .aload_n 2, 1044, []), (1044, .aload_n 0, 1045, []), (1045, .iload_n 3, 1046, []), (1046, .iconst 1, 1047, []), (1047, .iadd, 1048, []), (1048, .iaload, 1049, []), (1049, .aload_n 0, 1050, []), (1050, .iload_n 3, 1051, []), (1051, .iconst 2, 1052, []), (1052, .iadd, 1053, []), (1053, .iaload, 1054, []), (1054, .invokevirtual 122, 1057, [])]
theorem kL_law_65 : tL_law_65.all (am_okE cL_law) = true := by decide +kernel
def tL_law_66 : List am_En := [(1057, .if_icmp .eq 85, 1060, [1142]), (1060, .iconst 0, 1061, []), (1061, .ireturn, 1062, []), (1062, .aload_n 1, 1063, []), (1063, .aload_n 0, 1064, []), (1064, .iload_n 3, 1065, []), (1065, .iconst 1, 1066, []), (1066, .iadd, 1067, []), (1067, .iaload, 1068, []), (1068, .invokevirtual 123, 1071, []), (1071, .aload_n 2, 1072, [])]
theorem kL_law_66 : tL_law_66.all (am_okE cL_law) = true := by decide +kernel
def tL_law_67 : List am_En := [(1072, .aload_n 0, 1073, []), (1073, .iload_n 3, 1074, []), (1074, .iconst 1, 1075, []), (1075, .iadd, 1076, []), (1076, .iaload, 1077, []), (1077, .invokevirtual 126, 1080, []), (1080, .if_icmp .eq 62, 1083, [1142]), (1083, .iconst 0, 1084, []), (1084, .ireturn, 1085, []), (1085, .aload_n 1, 1086, []), (1086, .aload_n 0, 1087, []), (1087, .iload_n 3, 1088, [])]
theorem kL_law_67 : tL_law_67.all (am_okE cL_law) = true := by decide +kernel
def tL_law_68 : List am_En := [(1088, .iconst 1, 1089, []), (1089, .iadd, 1090, []), (1090, .iaload, 1091, []), (1091, .aload_n 0, 1092, []), (1092, .iload_n 3, 1093, []), (1093, .iconst 2, 1094, []), (1094, .iadd, 1095, []), (1095, .iaload, 1096, []), (1096, .invokevirtual 127, 1099, []), (1099, .aload_n 2, 1100, []), (1100, .aload_n 0, 1101, []), (1101, .iload_n 3, 1102, []), (1102, .iconst 1, 1103, []), (1103, .iadd, 1104, [])]
theorem kL_law_68 : tL_law_68.all (am_okE cL_law) = true := by decide +kernel
def tL_law_69 : List am_En := [(1104, .iaload, 1105, []), (1105, .aload_n 0, 1106, []), (1106, .iload_n 3, 1107, []), (1107, .iconst 2, 1108, []), (1108, .iadd, 1109, []), (1109, .iaload, 1110, []), (1110, .invokevirtual 131, 1113, []), (1113, .lcmp, 1114, []), (1114, .ifCond .eq 28, 1117, [1142]), (1117, .iconst 0, 1118, []), (1118, .ireturn, 1119, []), (1119, .aload_n 1, 1120, [])]
theorem kL_law_69 : tL_law_69.all (am_okE cL_law) = true := by decide +kernel
def tL_law_70 : List am_En := [(1120, .aload_n 0, 1121, []), (1121, .iload_n 3, 1122, []), (1122, .iconst 1, 1123, []), (1123, .iadd, 1124, []), (1124, .iaload, 1125, []), (1125, .invokevirtual 132, 1128, []), (1128, .aload_n 2, 1129, []), (1129, .aload_n 0, 1130, []), (1130, .iload_n 3, 1131, []), (1131, .iconst 1, 1132, []), (1132, .iadd, 1133, []), (1133, .iaload, 1134, []), (1134, .invokevirtual 135, 1137, [])]
theorem kL_law_70 : tL_law_70.all (am_okE cL_law) = true := by decide +kernel
def tL_law_71 : List am_En := [(1137, .if_icmp .eq 5, 1140, [1142]), (1140, .iconst 0, 1141, []), (1141, .ireturn, 1142, []), (1142, .iinc 3 6, 1145, []), (1145, .goto (-1127), 1148, [18]), (1148, .iconst 1, 1149, []), (1149, .ireturn, 1150, [])]
theorem kL_law_71 : tL_law_71.all (am_okE cL_law) = true := by decide +kernel
def tL_law : List (List am_En) := [tL_law_0, tL_law_1, tL_law_2, tL_law_3, tL_law_4, tL_law_5, tL_law_6, tL_law_7, tL_law_8, tL_law_9, tL_law_10, tL_law_11, tL_law_12, tL_law_13, tL_law_14, tL_law_15, tL_law_16, tL_law_17, tL_law_18, tL_law_19, tL_law_20, tL_law_21, tL_law_22, tL_law_23, tL_law_24, tL_law_25, tL_law_26, tL_law_27, tL_law_28, tL_law_29, tL_law_30, tL_law_31, tL_law_32, tL_law_33, tL_law_34, tL_law_35, tL_law_36, tL_law_37, tL_law_38, tL_law_39, tL_law_40, tL_law_41, tL_law_42, tL_law_43, tL_law_44, tL_law_45, tL_law_46, tL_law_47, tL_law_48, tL_law_49, tL_law_50, tL_law_51, tL_law_52, tL_law_53, tL_law_54, tL_law_55, tL_law_56, tL_law_57, tL_law_58, tL_law_59, tL_law_60, tL_law_61, tL_law_62, tL_law_63, tL_law_64, tL_law_65, tL_law_66, tL_law_67, tL_law_68, tL_law_69, tL_law_70, tL_law_71]
def yL_law : MethodName := ⟨"ApplyFreeLaw", "law", "([I)Z"⟩
def mL_law : am_MR := (yL_law, cL_law, 4, (some .boolean), 10, 1, (0, 0), tL_law)
theorem kL_law : am_chk cL_law tL_law = true := am_chk_c kL_law_0 (am_chk_c kL_law_1 (am_chk_c kL_law_2 (am_chk_c kL_law_3 (am_chk_c kL_law_4 (am_chk_c kL_law_5 (am_chk_c kL_law_6 (am_chk_c kL_law_7 (am_chk_c kL_law_8 (am_chk_c kL_law_9 (am_chk_c kL_law_10 (am_chk_c kL_law_11 (am_chk_c kL_law_12 (am_chk_c kL_law_13 (am_chk_c kL_law_14 (am_chk_c kL_law_15 (am_chk_c kL_law_16 (am_chk_c kL_law_17 (am_chk_c kL_law_18 (am_chk_c kL_law_19 (am_chk_c kL_law_20 (am_chk_c kL_law_21 (am_chk_c kL_law_22 (am_chk_c kL_law_23 (am_chk_c kL_law_24 (am_chk_c kL_law_25 (am_chk_c kL_law_26 (am_chk_c kL_law_27 (am_chk_c kL_law_28 (am_chk_c kL_law_29 (am_chk_c kL_law_30 (am_chk_c kL_law_31 (am_chk_c kL_law_32 (am_chk_c kL_law_33 (am_chk_c kL_law_34 (am_chk_c kL_law_35 (am_chk_c kL_law_36 (am_chk_c kL_law_37 (am_chk_c kL_law_38 (am_chk_c kL_law_39 (am_chk_c kL_law_40 (am_chk_c kL_law_41 (am_chk_c kL_law_42 (am_chk_c kL_law_43 (am_chk_c kL_law_44 (am_chk_c kL_law_45 (am_chk_c kL_law_46 (am_chk_c kL_law_47 (am_chk_c kL_law_48 (am_chk_c kL_law_49 (am_chk_c kL_law_50 (am_chk_c kL_law_51 (am_chk_c kL_law_52 (am_chk_c kL_law_53 (am_chk_c kL_law_54 (am_chk_c kL_law_55 (am_chk_c kL_law_56 (am_chk_c kL_law_57 (am_chk_c kL_law_58 (am_chk_c kL_law_59 (am_chk_c kL_law_60 (am_chk_c kL_law_61 (am_chk_c kL_law_62 (am_chk_c kL_law_63 (am_chk_c kL_law_64 (am_chk_c kL_law_65 (am_chk_c kL_law_66 (am_chk_c kL_law_67 (am_chk_c kL_law_68 (am_chk_c kL_law_69 (am_chk_c kL_law_70 (am_chk_c kL_law_71 (rfl))))))))))))))))))))))))))))))))))))))))))))))))))))))))))))))))))))))))
def tX0_init_0 : List am_En := [(0, .aload_n 0, 1, []), (1, .invokespecial 1, 4, []), (4, .aload_n 0, 5, []), (5, .bipush 6, 7, []), (7, .anewarray 9, 10, []), (10, .putfield 11, 13, []), (13, .aload_n 0, 14, []), (14, .new 15, 17, [])]
theorem kX0_init_0 : tX0_init_0.all (am_okE cX0_init) = true := by decide +kernel
def tX0_init_1 : List am_En := [(17, .dup, 18, []), (18, .aload_n 0, 19, []), (19, .getfield 11, 22, []), (22, .invokespecial 17, 25, []), (25, .putfield 20, 28, []), (28, .aload_n 0, 29, []), (29, .new 24, 32, [])]
theorem kX0_init_1 : tX0_init_1.all (am_okE cX0_init) = true := by decide +kernel
def tX0_init_2 : List am_En := [(32, .dup, 33, []), (33, .invokespecial 26, 36, []), (36, .putfield 27, 39, []), (39, .aload_n 0, 40, []), (40, .new 31, 43, []), (43, .dup, 44, []), (44, .aload_n 0, 45, []), (45, .getfield 20, 48, [])]
theorem kX0_init_2 : tX0_init_2.all (am_okE cX0_init) = true := by decide +kernel
def tX0_init_3 : List am_En := [(48, .aload_n 0, 49, []), (49, .getfield 27, 52, []), (52, .invokespecial 33, 55, []), (55, .putfield 36, 58, []), (58, .aload_n 0, 59, []), (59, .new 40, 62, []), (62, .dup, 63, []), (63, .aload_n 0, 64, [])]
theorem kX0_init_3 : tX0_init_3.all (am_okE cX0_init) = true := by decide +kernel
def tX0_init_4 : List am_En := [(64, .getfield 11, 67, []), (67, .aload_n 0, 68, []), (68, .getfield 27, 71, []), (71, .invokespecial 42, 74, []), (74, .putfield 45, 77, []), (77, .aload_n 0, 78, []), (78, .sipush 24000, 81, [])]
theorem kX0_init_4 : tX0_init_4.all (am_okE cX0_init) = true := by decide +kernel
def tX0_init_5 : List am_En := [(81, .newarray .int, 83, []), (83, .putfield 49, 86, []), (86, .return_, 87, [])]
theorem kX0_init_5 : tX0_init_5.all (am_okE cX0_init) = true := by decide +kernel
def tX0_init : List (List am_En) := [tX0_init_0, tX0_init_1, tX0_init_2, tX0_init_3, tX0_init_4, tX0_init_5]
def mX0_init : am_MR := (yX0_init, cX0_init, 1, none, 0, 0, (648, 1635243), tX0_init)
theorem kX0_init : am_chk cX0_init tX0_init = true := am_chk_c kX0_init_0 (am_chk_c kX0_init_1 (am_chk_c kX0_init_2 (am_chk_c kX0_init_3 (am_chk_c kX0_init_4 (am_chk_c kX0_init_5 (rfl))))))
def tX0_table_0 : List am_En := [(0, .aload_n 0, 1, []), (1, .getfield 53, 4, []), (4, .bipush 6, 6, []), (6, .if_icmp .eq 12, 9, [18]), (9, .iload_n 1, 10, []), (10, .iconst 1, 11, []), (11, .iconst 4, 12, []), (12, .invokestatic 57, 15, []), (15, .ifCond .ne 5, 18, [20])]
theorem kX0_table_0 : tX0_table_0.all (am_okE cX0_table) = true := by decide +kernel
def tX0_table_1 : List am_En := [(18, .iconst (-1), 19, []), (19, .ireturn, 20, []), (20, .aload_n 0, 21, []), (21, .getfield 11, 24, []), (24, .aload_n 0, 25, []), (25, .getfield 53, 28, []), (28, .new 9, 31, []), (31, .dup, 32, [])]
theorem kX0_table_1 : tX0_table_1.all (am_okE cX0_table) = true := by decide +kernel
def tX0_table_2 : List am_En := [(32, .iload_n 1, 33, []), (33, .invokespecial 61, 36, []), (36, .aastore, 37, []), (37, .aload_n 0, 38, []), (38, .dup, 39, []), (39, .getfield 53, 42, []), (42, .dup_x1, 43, []), (43, .iconst 1, 44, []), (44, .iadd, 45, []), (45, .putfield 53, 48, [])]
theorem kX0_table_2 : tX0_table_2.all (am_okE cX0_table) = true := by decide +kernel
def tX0_table_3 : List am_En := [(48, .ireturn, 49, [])]
theorem kX0_table_3 : tX0_table_3.all (am_okE cX0_table) = true := by decide +kernel
def tX0_table : List (List am_En) := [tX0_table_0, tX0_table_1, tX0_table_2, tX0_table_3]
def mX0_table : am_MR := (yX0_table, cX0_table, 2, (some .int), 0, 1, (2, 99), tX0_table)
theorem kX0_table : am_chk cX0_table tX0_table = true := am_chk_c kX0_table_0 (am_chk_c kX0_table_1 (am_chk_c kX0_table_2 (am_chk_c kX0_table_3 (rfl))))
def tX0_isIn_0 : List am_En := [(0, .iload_n 0, 1, []), (1, .iload_n 1, 2, []), (2, .if_icmp .lt 12, 5, [14]), (5, .iload_n 0, 6, []), (6, .iload_n 2, 7, []), (7, .if_icmp .gt 7, 10, [14]), (10, .iconst 1, 11, []), (11, .goto 4, 14, [15]), (14, .iconst 0, 15, []), (15, .ireturn, 16, [])]
theorem kX0_isIn_0 : tX0_isIn_0.all (am_okE cX0_isIn) = true := by decide +kernel
def tX0_isIn : List (List am_En) := [tX0_isIn_0]
def mX0_isIn : am_MR := (yX0_isIn, cX0_isIn, 3, (some .boolean), 0, 3, (0, 0), tX0_isIn)
theorem kX0_isIn : am_chk cX0_isIn tX0_isIn = true := am_chk_c kX0_isIn_0 (rfl)
def tX0_row_0 : List am_En := [(0, .aload_n 0, 1, []), (1, .iload_n 1, 2, []), (2, .invokevirtual 64, 5, []), (5, .ifCond .eq 17, 8, [22]), (8, .aload_n 0, 9, []), (9, .getfield 11, 12, []), (12, .iload_n 1, 13, []), (13, .aaload, 14, []), (14, .getfield 68, 17, [])]
theorem kX0_row_0 : tX0_row_0.all (am_okE cX0_row) = true := by decide +kernel
def tX0_row_1 : List am_En := [(17, .bipush 24, 19, []), (19, .if_icmp .ne 5, 22, [24]), (22, .iconst (-1), 23, []), (23, .ireturn, 24, []), (24, .aload_n 0, 25, []), (25, .getfield 11, 28, []), (28, .iload_n 1, 29, []), (29, .aaload, 30, []), (30, .astore 6, 32, [])]
theorem kX0_row_1 : tX0_row_1.all (am_okE cX0_row) = true := by decide +kernel
def tX0_row_2 : List am_En := [(32, .iconst 0, 33, []), (33, .istore 7, 35, []), (35, .iload 7, 37, []), (37, .aload 6, 39, []), (39, .getfield 71, 42, []), (42, .if_icmp .ge 61, 45, [103]), (45, .aload 6, 47, []), (47, .getfield 74, 50, [])]
theorem kX0_row_2 : tX0_row_2.all (am_okE cX0_row) = true := by decide +kernel
def tX0_row_3 : List am_En := [(50, .aload 6, 52, []), (52, .getfield 68, 55, []), (55, .aload 6, 57, []), (57, .getfield 71, 60, []), (60, .imul, 61, []), (61, .iload 7, 63, []), (63, .iadd, 64, [])]
theorem kX0_row_3 : tX0_row_3.all (am_okE cX0_row) = true := by decide +kernel
def tX0_row_4 : List am_En := [(64, .iload 7, 66, []), (66, .ifCond .ne 7, 69, [73]), (69, .iload_n 2, 70, []), (70, .goto 26, 73, [96]), (73, .iload 7, 75, []), (75, .iconst 1, 76, []), (76, .if_icmp .ne 7, 79, [83]), (79, .iload_n 3, 80, [])]
theorem kX0_row_4 : tX0_row_4.all (am_okE cX0_row) = true := by decide +kernel
def tX0_row_5 : List am_En := [(80, .goto 16, 83, [96]), (83, .iload 7, 85, []), (85, .iconst 2, 86, []), (86, .if_icmp .ne 8, 89, [94]), (89, .iload 4, 91, []), (91, .goto 5, 94, [96]), (94, .iload 5, 96, [])]
theorem kX0_row_5 : tX0_row_5.all (am_okE cX0_row) = true := by decide +kernel
def tX0_row_6 : List am_En := [(96, .iastore, 97, []), (97, .iinc 7 1, 100, []), (100, .goto (-65), 103, [35]), (103, .aload 6, 105, []), (105, .dup, 106, []), (106, .getfield 68, 109, []), (109, .iconst 1, 110, []), (110, .iadd, 111, []), (111, .putfield 68, 114, [])]
theorem kX0_row_6 : tX0_row_6.all (am_okE cX0_row) = true := by decide +kernel
def tX0_row_7 : List am_En := [(114, .aload 6, 116, []), (116, .getfield 68, 119, []), (119, .ireturn, 120, [])]
theorem kX0_row_7 : tX0_row_7.all (am_okE cX0_row) = true := by decide +kernel
def tX0_row : List (List am_En) := [tX0_row_0, tX0_row_1, tX0_row_2, tX0_row_3, tX0_row_4, tX0_row_5, tX0_row_6, tX0_row_7]
def mX0_row : am_MR := (yX0_row, cX0_row, 8, (some .int), 0, 5, (0, 0), tX0_row)
theorem kX0_row : am_chk cX0_row tX0_row = true := am_chk_c kX0_row_0 (am_chk_c kX0_row_1 (am_chk_c kX0_row_2 (am_chk_c kX0_row_3 (am_chk_c kX0_row_4 (am_chk_c kX0_row_5 (am_chk_c kX0_row_6 (am_chk_c kX0_row_7 (rfl))))))))
def tX0_isTable_0 : List am_En := [(0, .iload_n 1, 1, []), (1, .ifCond .lt 15, 4, [16]), (4, .iload_n 1, 5, []), (5, .aload_n 0, 6, []), (6, .getfield 53, 9, []), (9, .if_icmp .ge 7, 12, [16]), (12, .iconst 1, 13, []), (13, .goto 4, 16, [17])]
theorem kX0_isTable_0 : tX0_isTable_0.all (am_okE cX0_isTable) = true := by decide +kernel
def tX0_isTable_1 : List am_En := [(16, .iconst 0, 17, []), (17, .ireturn, 18, [])]
theorem kX0_isTable_1 : tX0_isTable_1.all (am_okE cX0_isTable) = true := by decide +kernel
def tX0_isTable : List (List am_En) := [tX0_isTable_0, tX0_isTable_1]
def mX0_isTable : am_MR := (yX0_isTable, cX0_isTable, 2, (some .boolean), 0, 1, (0, 0), tX0_isTable)
theorem kX0_isTable : am_chk cX0_isTable tX0_isTable = true := am_chk_c kX0_isTable_0 (am_chk_c kX0_isTable_1 (rfl))
def tX0_empty_0 : List am_En := [(0, .aload_n 0, 1, []), (1, .iload_n 1, 2, []), (2, .invokevirtual 64, 5, []), (5, .ifCond .ne 5, 8, [10]), (8, .iconst (-1), 9, []), (9, .ireturn, 10, []), (10, .aload_n 0, 11, []), (11, .getfield 11, 14, []), (14, .iload_n 1, 15, []), (15, .aaload, 16, [])]
theorem kX0_empty_0 : tX0_empty_0.all (am_okE cX0_empty) = true := by decide +kernel
def tX0_empty_1 : List am_En := [(16, .getfield 68, 19, []), (19, .istore_n 2, 20, []), (20, .aload_n 0, 21, []), (21, .getfield 11, 24, []), (24, .iload_n 1, 25, []), (25, .aaload, 26, []), (26, .iconst 0, 27, []), (27, .putfield 68, 30, []), (30, .iload_n 2, 31, []), (31, .ireturn, 32, [])]
theorem kX0_empty_1 : tX0_empty_1.all (am_okE cX0_empty) = true := by decide +kernel
def tX0_empty : List (List am_En) := [tX0_empty_0, tX0_empty_1]
def mX0_empty : am_MR := (yX0_empty, cX0_empty, 3, (some .int), 0, 1, (0, 0), tX0_empty)
theorem kX0_empty : am_chk cX0_empty tX0_empty = true := am_chk_c kX0_empty_0 (am_chk_c kX0_empty_1 (rfl))
def tX0_constant_0 : List am_En := [(0, .aload_n 0, 1, []), (1, .getfield 20, 4, []), (4, .invokevirtual 77, 7, []), (7, .ifCond .ne 5, 10, [12]), (10, .iconst (-1), 11, []), (11, .ireturn, 12, []), (12, .aload_n 0, 13, []), (13, .getfield 20, 16, [])]
theorem kX0_constant_0 : tX0_constant_0.all (am_okE cX0_constant) = true := by decide +kernel
def tX0_constant_1 : List am_En := [(16, .iconst 0, 17, []), (17, .iconst 0, 18, []), (18, .iconst (-1), 19, []), (19, .iconst (-1), 20, []), (20, .iconst 0, 21, []), (21, .invokevirtual 81, 24, []), (24, .istore_n 2, 25, []), (25, .aload_n 0, 26, []), (26, .getfield 20, 29, []), (29, .getfield 85, 32, [])]
theorem kX0_constant_1 : tX0_constant_1.all (am_okE cX0_constant) = true := by decide +kernel
def tX0_constant_2 : List am_En := [(32, .iload_n 2, 33, []), (33, .iload_n 1, 34, []), (34, .iastore, 35, []), (35, .iload_n 2, 36, []), (36, .ireturn, 37, [])]
theorem kX0_constant_2 : tX0_constant_2.all (am_okE cX0_constant) = true := by decide +kernel
def tX0_constant : List (List am_En) := [tX0_constant_0, tX0_constant_1, tX0_constant_2]
def mX0_constant : am_MR := (yX0_constant, cX0_constant, 3, (some .int), 0, 1, (0, 0), tX0_constant)
theorem kX0_constant : am_chk cX0_constant tX0_constant = true := am_chk_c kX0_constant_0 (am_chk_c kX0_constant_1 (am_chk_c kX0_constant_2 (rfl)))
def tX0_column_0 : List am_En := [(0, .aload_n 0, 1, []), (1, .getfield 20, 4, []), (4, .invokevirtual 77, 7, []), (7, .ifCond .eq 22, 10, [29]), (10, .iload_n 1, 11, []), (11, .iconst 0, 12, []), (12, .iconst 3, 13, []), (13, .invokestatic 57, 16, [])]
theorem kX0_column_0 : tX0_column_0.all (am_okE cX0_column) = true := by decide +kernel
def tX0_column_1 : List am_En := [(16, .ifCond .eq 13, 19, [29]), (19, .iload_n 2, 20, []), (20, .iconst 0, 21, []), (21, .bipush 7, 23, []), (23, .invokestatic 57, 26, []), (26, .ifCond .ne 5, 29, [31]), (29, .iconst (-1), 30, []), (30, .ireturn, 31, []), (31, .aload_n 0, 32, [])]
theorem kX0_column_1 : tX0_column_1.all (am_okE cX0_column) = true := by decide +kernel
def tX0_column_2 : List am_En := [(32, .getfield 20, 35, []), (35, .iconst 1, 36, []), (36, .iconst 0, 37, []), (37, .iconst (-1), 38, []), (38, .iconst (-1), 39, []), (39, .iconst 0, 40, []), (40, .invokevirtual 81, 43, []), (43, .istore_n 3, 44, []), (44, .aload_n 0, 45, []), (45, .getfield 20, 48, [])]
theorem kX0_column_2 : tX0_column_2.all (am_okE cX0_column) = true := by decide +kernel
def tX0_column_3 : List am_En := [(48, .getfield 85, 51, []), (51, .iload_n 3, 52, []), (52, .iload_n 1, 53, []), (53, .bipush 8, 55, []), (55, .imul, 56, []), (56, .iload_n 2, 57, []), (57, .iadd, 58, []), (58, .iastore, 59, []), (59, .aload_n 0, 60, []), (60, .getfield 20, 63, []), (63, .getfield 88, 66, [])]
theorem kX0_column_3 : tX0_column_3.all (am_okE cX0_column) = true := by decide +kernel
def tX0_column_4 : List am_En := [(66, .iload_n 3, 67, []), (67, .iconst 1, 68, []), (68, .iload_n 1, 69, []), (69, .bipush 8, 71, []), (71, .imul, 72, []), (72, .iload_n 2, 73, []), (73, .iadd, 74, []), (74, .ishl, 75, []), (75, .iastore, 76, []), (76, .iload_n 3, 77, []), (77, .ireturn, 78, [])]
theorem kX0_column_4 : tX0_column_4.all (am_okE cX0_column) = true := by decide +kernel
def tX0_column : List (List am_En) := [tX0_column_0, tX0_column_1, tX0_column_2, tX0_column_3, tX0_column_4]
def mX0_column : am_MR := (yX0_column, cX0_column, 4, (some .int), 0, 2, (0, 0), tX0_column)
theorem kX0_column : am_chk cX0_column tX0_column = true := am_chk_c kX0_column_0 (am_chk_c kX0_column_1 (am_chk_c kX0_column_2 (am_chk_c kX0_column_3 (am_chk_c kX0_column_4 (rfl)))))
def tX0_reckon_0 : List am_En := [(0, .aload_n 0, 1, []), (1, .iload_n 2, 2, []), (2, .iconst 0, 3, []), (3, .iload_n 3, 4, []), (4, .iconst 0, 5, []), (5, .invokevirtual 95, 8, []), (8, .ifCond .eq 27, 11, [35]), (11, .iload_n 1, 12, []), (12, .iconst 0, 13, []), (13, .iconst 2, 14, []), (14, .invokestatic 57, 17, [])]
theorem kX0_reckon_0 : tX0_reckon_0.all (am_okE cX0_reckon) = true := by decide +kernel
def tX0_reckon_1 : List am_En := [(17, .ifCond .eq 18, 20, [35]), (20, .aload_n 0, 21, []), (21, .getfield 20, 24, []), (24, .iconst 2, 25, []), (25, .iload_n 1, 26, []), (26, .iload_n 2, 27, []), (27, .iload_n 3, 28, []), (28, .iconst 0, 29, []), (29, .invokevirtual 81, 32, [])]
theorem kX0_reckon_1 : tX0_reckon_1.all (am_okE cX0_reckon) = true := by decide +kernel
def tX0_reckon_2 : List am_En := [(32, .goto 4, 35, [36]), (35, .iconst (-1), 36, []), (36, .ireturn, 37, [])]
theorem kX0_reckon_2 : tX0_reckon_2.all (am_okE cX0_reckon) = true := by decide +kernel
def tX0_reckon : List (List am_En) := [tX0_reckon_0, tX0_reckon_1, tX0_reckon_2]
def mX0_reckon : am_MR := (yX0_reckon, cX0_reckon, 4, (some .int), 0, 3, (0, 0), tX0_reckon)
theorem kX0_reckon : am_chk cX0_reckon tX0_reckon = true := am_chk_c kX0_reckon_0 (am_chk_c kX0_reckon_1 (am_chk_c kX0_reckon_2 (rfl)))
def tX0_are_0 : List am_En := [(0, .aload_n 0, 1, []), (1, .getfield 20, 4, []), (4, .invokevirtual 77, 7, []), (7, .ifCond .eq 32, 10, [39]), (10, .aload_n 0, 11, []), (11, .getfield 20, 14, []), (14, .iload_n 1, 15, []), (15, .iload_n 2, 16, [])]
theorem kX0_are_0 : tX0_are_0.all (am_okE cX0_are) = true := by decide +kernel
def tX0_are_1 : List am_En := [(16, .invokevirtual 91, 19, []), (19, .ifCond .eq 20, 22, [39]), (22, .aload_n 0, 23, []), (23, .getfield 20, 26, []), (26, .iload_n 3, 27, []), (27, .iload 4, 29, []), (29, .invokevirtual 91, 32, [])]
theorem kX0_are_1 : tX0_are_1.all (am_okE cX0_are) = true := by decide +kernel
def tX0_are_2 : List am_En := [(32, .ifCond .eq 7, 35, [39]), (35, .iconst 1, 36, []), (36, .goto 4, 39, [40]), (39, .iconst 0, 40, []), (40, .ireturn, 41, [])]
theorem kX0_are_2 : tX0_are_2.all (am_okE cX0_are) = true := by decide +kernel
def tX0_are : List (List am_En) := [tX0_are_0, tX0_are_1, tX0_are_2]
def mX0_are : am_MR := (yX0_are, cX0_are, 5, (some .boolean), 0, 4, (0, 0), tX0_are)
theorem kX0_are : am_chk cX0_are tX0_are = true := am_chk_c kX0_are_0 (am_chk_c kX0_are_1 (am_chk_c kX0_are_2 (rfl)))
def tX0_number_0 : List am_En := [(0, .aload_n 0, 1, []), (1, .iload_n 1, 2, []), (2, .iconst 1, 3, []), (3, .invokevirtual 99, 6, []), (6, .ifCond .eq 18, 9, [24]), (9, .aload_n 0, 10, []), (10, .getfield 20, 13, []), (13, .iconst 3, 14, []), (14, .iconst 0, 15, []), (15, .iload_n 1, 16, [])]
theorem kX0_number_0 : tX0_number_0.all (am_okE cX0_number) = true := by decide +kernel
def tX0_number_1 : List am_En := [(16, .iconst (-1), 17, []), (17, .iconst 0, 18, []), (18, .invokevirtual 81, 21, []), (21, .goto 4, 24, [25]), (24, .iconst (-1), 25, []), (25, .ireturn, 26, [])]
theorem kX0_number_1 : tX0_number_1.all (am_okE cX0_number) = true := by decide +kernel
def tX0_number : List (List am_En) := [tX0_number_0, tX0_number_1]
def mX0_number : am_MR := (yX0_number, cX0_number, 2, (some .int), 0, 1, (0, 0), tX0_number)
theorem kX0_number : am_chk cX0_number tX0_number = true := am_chk_c kX0_number_0 (am_chk_c kX0_number_1 (rfl))
def tX0_isOne_0 : List am_En := [(0, .aload_n 0, 1, []), (1, .getfield 20, 4, []), (4, .invokevirtual 77, 7, []), (7, .ifCond .eq 19, 10, [26]), (10, .aload_n 0, 11, []), (11, .getfield 20, 14, []), (14, .iload_n 1, 15, []), (15, .iload_n 2, 16, [])]
theorem kX0_isOne_0 : tX0_isOne_0.all (am_okE cX0_isOne) = true := by decide +kernel
def tX0_isOne_1 : List am_En := [(16, .invokevirtual 91, 19, []), (19, .ifCond .eq 7, 22, [26]), (22, .iconst 1, 23, []), (23, .goto 4, 26, [27]), (26, .iconst 0, 27, []), (27, .ireturn, 28, [])]
theorem kX0_isOne_1 : tX0_isOne_1.all (am_okE cX0_isOne) = true := by decide +kernel
def tX0_isOne : List (List am_En) := [tX0_isOne_0, tX0_isOne_1]
def mX0_isOne : am_MR := (yX0_isOne, cX0_isOne, 3, (some .boolean), 0, 2, (0, 0), tX0_isOne)
theorem kX0_isOne : am_chk cX0_isOne tX0_isOne = true := am_chk_c kX0_isOne_0 (am_chk_c kX0_isOne_1 (rfl))
def tX0_fold_0 : List am_En := [(0, .aload_n 0, 1, []), (1, .iload_n 2, 2, []), (2, .iconst 2, 3, []), (3, .invokevirtual 99, 6, []), (6, .ifCond .eq 24, 9, [30]), (9, .iload_n 1, 10, []), (10, .iconst 0, 11, []), (11, .iconst 5, 12, []), (12, .invokestatic 57, 15, []), (15, .ifCond .eq 15, 18, [30])]
theorem kX0_fold_0 : tX0_fold_0.all (am_okE cX0_fold) = true := by decide +kernel
def tX0_fold_1 : List am_En := [(18, .aload_n 0, 19, []), (19, .getfield 20, 22, []), (22, .iload_n 2, 23, []), (23, .iload_n 3, 24, []), (24, .invokevirtual 102, 27, []), (27, .ifCond .ne 5, 30, [32]), (30, .iconst (-1), 31, []), (31, .ireturn, 32, [])]
theorem kX0_fold_1 : tX0_fold_1.all (am_okE cX0_fold) = true := by decide +kernel
def tX0_fold_2 : List am_En := [(32, .aload_n 0, 33, []), (33, .getfield 20, 36, []), (36, .iconst 4, 37, []), (37, .iload_n 1, 38, []), (38, .iload_n 2, 39, []), (39, .iconst (-1), 40, []), (40, .iconst 0, 41, []), (41, .invokevirtual 81, 44, []), (44, .istore 4, 46, []), (46, .aload_n 0, 47, []), (47, .getfield 20, 50, [])]
theorem kX0_fold_2 : tX0_fold_2.all (am_okE cX0_fold) = true := by decide +kernel
def tX0_fold_3 : List am_En := [(50, .getfield 105, 53, []), (53, .iload 4, 55, []), (55, .iload_n 3, 56, []), (56, .i2b, 57, []), (57, .bastore, 58, []), (58, .iload 4, 60, []), (60, .ireturn, 61, [])]
theorem kX0_fold_3 : tX0_fold_3.all (am_okE cX0_fold) = true := by decide +kernel
def tX0_fold : List (List am_En) := [tX0_fold_0, tX0_fold_1, tX0_fold_2, tX0_fold_3]
def mX0_fold : am_MR := (yX0_fold, cX0_fold, 5, (some .int), 0, 3, (0, 0), tX0_fold)
theorem kX0_fold : am_chk cX0_fold tX0_fold = true := am_chk_c kX0_fold_0 (am_chk_c kX0_fold_1 (am_chk_c kX0_fold_2 (am_chk_c kX0_fold_3 (rfl))))
def tX0_compare_0 : List am_En := [(0, .aload_n 0, 1, []), (1, .iload_n 2, 2, []), (2, .iconst 0, 3, []), (3, .iload_n 3, 4, []), (4, .iconst 0, 5, []), (5, .invokevirtual 95, 8, []), (8, .ifCond .eq 27, 11, [35]), (11, .iload_n 1, 12, []), (12, .iconst 0, 13, []), (13, .iconst 4, 14, []), (14, .invokestatic 57, 17, [])]
theorem kX0_compare_0 : tX0_compare_0.all (am_okE cX0_compare) = true := by decide +kernel
def tX0_compare_1 : List am_En := [(17, .ifCond .eq 18, 20, [35]), (20, .aload_n 0, 21, []), (21, .getfield 20, 24, []), (24, .iconst 5, 25, []), (25, .iload_n 1, 26, []), (26, .iload_n 2, 27, []), (27, .iload_n 3, 28, []), (28, .iconst 0, 29, []), (29, .invokevirtual 81, 32, [])]
theorem kX0_compare_1 : tX0_compare_1.all (am_okE cX0_compare) = true := by decide +kernel
def tX0_compare_2 : List am_En := [(32, .goto 4, 35, [36]), (35, .iconst (-1), 36, []), (36, .ireturn, 37, [])]
theorem kX0_compare_2 : tX0_compare_2.all (am_okE cX0_compare) = true := by decide +kernel
def tX0_compare : List (List am_En) := [tX0_compare_0, tX0_compare_1, tX0_compare_2]
def mX0_compare : am_MR := (yX0_compare, cX0_compare, 4, (some .int), 0, 3, (0, 0), tX0_compare)
theorem kX0_compare : am_chk cX0_compare tX0_compare = true := am_chk_c kX0_compare_0 (am_chk_c kX0_compare_1 (am_chk_c kX0_compare_2 (rfl)))
def tX0_isNothing_0 : List am_En := [(0, .aload_n 0, 1, []), (1, .iload_n 1, 2, []), (2, .iconst 0, 3, []), (3, .invokevirtual 99, 6, []), (6, .ifCond .eq 19, 9, [25]), (9, .aload_n 0, 10, []), (10, .getfield 20, 13, []), (13, .bipush 6, 15, []), (15, .iconst 0, 16, [])]
theorem kX0_isNothing_0 : tX0_isNothing_0.all (am_okE cX0_isNothing) = true := by decide +kernel
def tX0_isNothing_1 : List am_En := [(16, .iload_n 1, 17, []), (17, .iconst (-1), 18, []), (18, .iconst 0, 19, []), (19, .invokevirtual 81, 22, []), (22, .goto 4, 25, [26]), (25, .iconst (-1), 26, []), (26, .ireturn, 27, [])]
theorem kX0_isNothing_1 : tX0_isNothing_1.all (am_okE cX0_isNothing) = true := by decide +kernel
def tX0_isNothing : List (List am_En) := [tX0_isNothing_0, tX0_isNothing_1]
def mX0_isNothing : am_MR := (yX0_isNothing, cX0_isNothing, 2, (some .int), 0, 1, (0, 0), tX0_isNothing)
theorem kX0_isNothing : am_chk cX0_isNothing tX0_isNothing = true := am_chk_c kX0_isNothing_0 (am_chk_c kX0_isNothing_1 (rfl))
def tX0_logic_0 : List am_En := [(0, .iload_n 1, 1, []), (1, .iconst 0, 2, []), (2, .iconst 2, 3, []), (3, .invokestatic 57, 6, []), (6, .ifCond .eq 29, 9, [35]), (9, .aload_n 0, 10, []), (10, .iload_n 2, 11, []), (11, .iconst 1, 12, []), (12, .invokevirtual 99, 15, []), (15, .ifCond .eq 20, 18, [35])]
theorem kX0_logic_0 : tX0_logic_0.all (am_okE cX0_logic) = true := by decide +kernel
def tX0_logic_1 : List am_En := [(18, .iload_n 1, 19, []), (19, .iconst 2, 20, []), (20, .if_icmp .ge 17, 23, [37]), (23, .aload_n 0, 24, []), (24, .getfield 20, 27, []), (27, .iload_n 3, 28, []), (28, .iconst 1, 29, []), (29, .invokevirtual 91, 32, [])]
theorem kX0_logic_1 : tX0_logic_1.all (am_okE cX0_logic) = true := by decide +kernel
def tX0_logic_2 : List am_En := [(32, .ifCond .ne 5, 35, [37]), (35, .iconst (-1), 36, []), (36, .ireturn, 37, []), (37, .aload_n 0, 38, []), (38, .getfield 20, 41, []), (41, .bipush 7, 43, []), (43, .iload_n 1, 44, []), (44, .iload_n 2, 45, []), (45, .iload_n 1, 46, []), (46, .iconst 2, 47, []), (47, .if_icmp .ge 7, 50, [54])]
theorem kX0_logic_2 : tX0_logic_2.all (am_okE cX0_logic) = true := by decide +kernel
def tX0_logic_3 : List am_En := [(50, .iload_n 3, 51, []), (51, .goto 4, 54, [55]), (54, .iconst (-1), 55, []), (55, .iconst 0, 56, []), (56, .invokevirtual 81, 59, []), (59, .ireturn, 60, [])]
theorem kX0_logic_3 : tX0_logic_3.all (am_okE cX0_logic) = true := by decide +kernel
def tX0_logic : List (List am_En) := [tX0_logic_0, tX0_logic_1, tX0_logic_2, tX0_logic_3]
def mX0_logic : am_MR := (yX0_logic, cX0_logic, 4, (some .int), 0, 3, (0, 0), tX0_logic)
theorem kX0_logic : am_chk cX0_logic tX0_logic = true := am_chk_c kX0_logic_0 (am_chk_c kX0_logic_1 (am_chk_c kX0_logic_2 (am_chk_c kX0_logic_3 (rfl))))
def tX0_has_0 : List am_En := [(0, .aload_n 0, 1, []), (1, .iload_n 1, 2, []), (2, .iconst 2, 3, []), (3, .invokevirtual 99, 6, []), (6, .ifCond .eq 19, 9, [25]), (9, .aload_n 0, 10, []), (10, .getfield 20, 13, []), (13, .bipush 8, 15, []), (15, .iconst 0, 16, [])]
theorem kX0_has_0 : tX0_has_0.all (am_okE cX0_has) = true := by decide +kernel
def tX0_has_1 : List am_En := [(16, .iload_n 1, 17, []), (17, .iconst (-1), 18, []), (18, .iconst 0, 19, []), (19, .invokevirtual 81, 22, []), (22, .goto 4, 25, [26]), (25, .iconst (-1), 26, []), (26, .ireturn, 27, [])]
theorem kX0_has_1 : tX0_has_1.all (am_okE cX0_has) = true := by decide +kernel
def tX0_has : List (List am_En) := [tX0_has_0, tX0_has_1]
def mX0_has : am_MR := (yX0_has, cX0_has, 2, (some .int), 0, 1, (0, 0), tX0_has)
theorem kX0_has : am_chk cX0_has tX0_has = true := am_chk_c kX0_has_0 (am_chk_c kX0_has_1 (rfl))
def tX0_some_0 : List am_En := [(0, .aload_n 0, 1, []), (1, .bipush 9, 3, []), (3, .iload_n 1, 4, []), (4, .iload_n 2, 5, []), (5, .iload_n 3, 6, []), (6, .invokevirtual 112, 9, []), (9, .ireturn, 10, [])]
theorem kX0_some_0 : tX0_some_0.all (am_okE cX0_some) = true := by decide +kernel
def tX0_some : List (List am_En) := [tX0_some_0]
def mX0_some : am_MR := (yX0_some, cX0_some, 4, (some .int), 0, 3, (0, 0), tX0_some)
theorem kX0_some : am_chk cX0_some tX0_some = true := am_chk_c kX0_some_0 (rfl)
def tX0_quantified_0 : List am_En := [(0, .aload_n 0, 1, []), (1, .iload_n 3, 2, []), (2, .iconst 0, 3, []), (3, .iload 4, 5, []), (5, .iconst 2, 6, []), (6, .invokevirtual 95, 9, []), (9, .ifCond .eq 42, 12, [51]), (12, .iload_n 2, 13, []), (13, .iconst 0, 14, []), (14, .iconst 4, 15, []), (15, .invokestatic 57, 18, [])]
theorem kX0_quantified_0 : tX0_quantified_0.all (am_okE cX0_quantified) = true := by decide +kernel
def tX0_quantified_1 : List am_En := [(18, .ifCond .eq 33, 21, [51]), (21, .aload_n 0, 22, []), (22, .getfield 20, 25, []), (25, .getfield 109, 28, []), (28, .iload 4, 30, []), (30, .baload, 31, []), (31, .iconst 1, 32, [])]
theorem kX0_quantified_1 : tX0_quantified_1.all (am_okE cX0_quantified) = true := by decide +kernel
def tX0_quantified_2 : List am_En := [(32, .if_icmp .ne 19, 35, [51]), (35, .aload_n 0, 36, []), (36, .getfield 20, 39, []), (39, .iload_n 1, 40, []), (40, .iload_n 2, 41, []), (41, .iload_n 3, 42, []), (42, .iload 4, 44, []), (44, .iconst 0, 45, []), (45, .invokevirtual 81, 48, [])]
theorem kX0_quantified_2 : tX0_quantified_2.all (am_okE cX0_quantified) = true := by decide +kernel
def tX0_quantified_3 : List am_En := [(48, .goto 4, 51, [52]), (51, .iconst (-1), 52, []), (52, .ireturn, 53, [])]
theorem kX0_quantified_3 : tX0_quantified_3.all (am_okE cX0_quantified) = true := by decide +kernel
def tX0_quantified : List (List am_En) := [tX0_quantified_0, tX0_quantified_1, tX0_quantified_2, tX0_quantified_3]
def mX0_quantified : am_MR := (yX0_quantified, cX0_quantified, 5, (some .int), 0, 4, (0, 0), tX0_quantified)
theorem kX0_quantified : am_chk cX0_quantified tX0_quantified = true := am_chk_c kX0_quantified_0 (am_chk_c kX0_quantified_1 (am_chk_c kX0_quantified_2 (am_chk_c kX0_quantified_3 (rfl))))
def tX0_each_0 : List am_En := [(0, .aload_n 0, 1, []), (1, .bipush 10, 3, []), (3, .iload_n 1, 4, []), (4, .iload_n 2, 5, []), (5, .iload_n 3, 6, []), (6, .invokevirtual 112, 9, []), (9, .ireturn, 10, [])]
theorem kX0_each_0 : tX0_each_0.all (am_okE cX0_each) = true := by decide +kernel
def tX0_each : List (List am_En) := [tX0_each_0]
def mX0_each : am_MR := (yX0_each, cX0_each, 4, (some .int), 0, 3, (0, 0), tX0_each)
theorem kX0_each : am_chk cX0_each tX0_each = true := am_chk_c kX0_each_0 (rfl)
def tX0_scan_0 : List am_En := [(0, .aload_n 0, 1, []), (1, .getfield 20, 4, []), (4, .invokevirtual 77, 7, []), (7, .ifCond .eq 11, 10, [18]), (10, .aload_n 0, 11, []), (11, .iload_n 1, 12, []), (12, .invokevirtual 64, 15, []), (15, .ifCond .ne 5, 18, [20])]
theorem kX0_scan_0 : tX0_scan_0.all (am_okE cX0_scan) = true := by decide +kernel
def tX0_scan_1 : List am_En := [(18, .iconst (-1), 19, []), (19, .ireturn, 20, []), (20, .aload_n 0, 21, []), (21, .getfield 20, 24, []), (24, .bipush 11, 26, []), (26, .iconst 0, 27, []), (27, .iconst (-1), 28, []), (28, .iconst (-1), 29, []), (29, .aload_n 0, 30, []), (30, .getfield 11, 33, [])]
theorem kX0_scan_1 : tX0_scan_1.all (am_okE cX0_scan) = true := by decide +kernel
def tX0_scan_2 : List am_En := [(33, .iload_n 1, 34, []), (34, .aaload, 35, []), (35, .getfield 71, 38, []), (38, .invokevirtual 81, 41, []), (41, .istore_n 2, 42, []), (42, .aload_n 0, 43, []), (43, .getfield 20, 46, []), (46, .getfield 85, 49, [])]
theorem kX0_scan_2 : tX0_scan_2.all (am_okE cX0_scan) = true := by decide +kernel
def tX0_scan_3 : List am_En := [(49, .iload_n 2, 50, []), (50, .iload_n 1, 51, []), (51, .iastore, 52, []), (52, .iload_n 2, 53, []), (53, .ireturn, 54, [])]
theorem kX0_scan_3 : tX0_scan_3.all (am_okE cX0_scan) = true := by decide +kernel
def tX0_scan : List (List am_En) := [tX0_scan_0, tX0_scan_1, tX0_scan_2, tX0_scan_3]
def mX0_scan : am_MR := (yX0_scan, cX0_scan, 3, (some .int), 0, 1, (0, 0), tX0_scan)
theorem kX0_scan : am_chk cX0_scan tX0_scan = true := am_chk_c kX0_scan_0 (am_chk_c kX0_scan_1 (am_chk_c kX0_scan_2 (am_chk_c kX0_scan_3 (rfl))))
def tX0_filter_0 : List am_En := [(0, .aload_n 0, 1, []), (1, .iload_n 1, 2, []), (2, .iconst 2, 3, []), (3, .iload_n 2, 4, []), (4, .iconst 1, 5, []), (5, .invokevirtual 95, 8, []), (8, .ifCond .eq 39, 11, [47]), (11, .aload_n 0, 12, []), (12, .getfield 20, 15, []), (15, .iload_n 1, 16, [])]
theorem kX0_filter_0 : tX0_filter_0.all (am_okE cX0_filter) = true := by decide +kernel
def tX0_filter_1 : List am_En := [(16, .iload_n 2, 17, []), (17, .invokevirtual 116, 20, []), (20, .ifCond .eq 27, 23, [47]), (23, .aload_n 0, 24, []), (24, .getfield 20, 27, []), (27, .bipush 12, 29, []), (29, .iconst 0, 30, []), (30, .iload_n 1, 31, []), (31, .iload_n 2, 32, [])]
theorem kX0_filter_1 : tX0_filter_1.all (am_okE cX0_filter) = true := by decide +kernel
def tX0_filter_2 : List am_En := [(32, .aload_n 0, 33, []), (33, .getfield 20, 36, []), (36, .getfield 109, 39, []), (39, .iload_n 1, 40, []), (40, .baload, 41, []), (41, .invokevirtual 81, 44, []), (44, .goto 4, 47, [48]), (47, .iconst (-1), 48, [])]
theorem kX0_filter_2 : tX0_filter_2.all (am_okE cX0_filter) = true := by decide +kernel
def tX0_filter_3 : List am_En := [(48, .ireturn, 49, [])]
theorem kX0_filter_3 : tX0_filter_3.all (am_okE cX0_filter) = true := by decide +kernel
def tX0_filter : List (List am_En) := [tX0_filter_0, tX0_filter_1, tX0_filter_2, tX0_filter_3]
def mX0_filter : am_MR := (yX0_filter, cX0_filter, 3, (some .int), 0, 2, (0, 0), tX0_filter)
theorem kX0_filter : am_chk cX0_filter tX0_filter = true := am_chk_c kX0_filter_0 (am_chk_c kX0_filter_1 (am_chk_c kX0_filter_2 (am_chk_c kX0_filter_3 (rfl))))
def tX0_more_0 : List am_En := [(0, .aload_n 0, 1, []), (1, .iload_n 1, 2, []), (2, .iconst 2, 3, []), (3, .iload_n 2, 4, []), (4, .iconst 0, 5, []), (5, .invokevirtual 95, 8, []), (8, .ifCond .eq 33, 11, [41]), (11, .aload_n 0, 12, []), (12, .getfield 20, 15, []), (15, .iload_n 1, 16, [])]
theorem kX0_more_0 : tX0_more_0.all (am_okE cX0_more) = true := by decide +kernel
def tX0_more_1 : List am_En := [(16, .iload_n 2, 17, []), (17, .invokevirtual 116, 20, []), (20, .ifCond .eq 21, 23, [41]), (23, .aload_n 0, 24, []), (24, .getfield 20, 27, []), (27, .getfield 109, 30, []), (30, .iload_n 1, 31, []), (31, .baload, 32, [])]
theorem kX0_more_1 : tX0_more_1.all (am_okE cX0_more) = true := by decide +kernel
def tX0_more_2 : List am_En := [(32, .bipush 8, 34, []), (34, .if_icmp .ge 7, 37, [41]), (37, .iconst 1, 38, []), (38, .goto 4, 41, [42]), (41, .iconst 0, 42, []), (42, .istore_n 3, 43, []), (43, .iload_n 3, 44, []), (44, .ifCond .eq 29, 47, [73]), (47, .aload_n 0, 48, [])]
theorem kX0_more_2 : tX0_more_2.all (am_okE cX0_more) = true := by decide +kernel
def tX0_more_3 : List am_En := [(48, .getfield 20, 51, []), (51, .bipush 13, 53, []), (53, .iconst 0, 54, []), (54, .iload_n 1, 55, []), (55, .iload_n 2, 56, []), (56, .aload_n 0, 57, []), (57, .getfield 20, 60, []), (60, .getfield 109, 63, []), (63, .iload_n 1, 64, [])]
theorem kX0_more_3 : tX0_more_3.all (am_okE cX0_more) = true := by decide +kernel
def tX0_more_4 : List am_En := [(64, .baload, 65, []), (65, .iconst 1, 66, []), (66, .iadd, 67, []), (67, .invokevirtual 81, 70, []), (70, .goto 4, 73, [74]), (73, .iconst (-1), 74, []), (74, .ireturn, 75, [])]
theorem kX0_more_4 : tX0_more_4.all (am_okE cX0_more) = true := by decide +kernel
def tX0_more : List (List am_En) := [tX0_more_0, tX0_more_1, tX0_more_2, tX0_more_3, tX0_more_4]
def mX0_more : am_MR := (yX0_more, cX0_more, 4, (some .int), 0, 2, (0, 0), tX0_more)
theorem kX0_more : am_chk cX0_more tX0_more = true := am_chk_c kX0_more_0 (am_chk_c kX0_more_1 (am_chk_c kX0_more_2 (am_chk_c kX0_more_3 (am_chk_c kX0_more_4 (rfl)))))
def tX0_only_0 : List am_En := [(0, .aload_n 0, 1, []), (1, .iload_n 1, 2, []), (2, .iconst 2, 3, []), (3, .invokevirtual 99, 6, []), (6, .ifCond .eq 13, 9, [19]), (9, .iload_n 3, 10, []), (10, .iconst 1, 11, []), (11, .bipush 8, 13, []), (13, .invokestatic 57, 16, [])]
theorem kX0_only_0 : tX0_only_0.all (am_okE cX0_only) = true := by decide +kernel
def tX0_only_1 : List am_En := [(16, .ifCond .ne 5, 19, [21]), (19, .iconst (-1), 20, []), (20, .ireturn, 21, []), (21, .iconst 0, 22, []), (22, .istore 4, 24, []), (24, .iload 4, 26, []), (26, .iload_n 3, 27, []), (27, .if_icmp .ge 31, 30, [58]), (30, .aload_n 0, 31, []), (31, .getfield 20, 34, [])]
theorem kX0_only_1 : tX0_only_1.all (am_okE cX0_only) = true := by decide +kernel
def tX0_only_2 : List am_En := [(34, .iload_n 1, 35, []), (35, .iload_n 2, 36, []), (36, .iconst 4, 37, []), (37, .iload 4, 39, []), (39, .imul, 40, []), (40, .ishr, 41, []), (41, .bipush 15, 43, []), (43, .iand, 44, []), (44, .invokevirtual 102, 47, []), (47, .ifCond .ne 5, 50, [52])]
theorem kX0_only_2 : tX0_only_2.all (am_okE cX0_only) = true := by decide +kernel
def tX0_only_3 : List am_En := [(50, .iconst (-1), 51, []), (51, .ireturn, 52, []), (52, .iinc 4 1, 55, []), (55, .goto (-31), 58, [24]), (58, .aload_n 0, 59, []), (59, .getfield 20, 62, []), (62, .bipush 14, 64, [])]
theorem kX0_only_3 : tX0_only_3.all (am_okE cX0_only) = true := by decide +kernel
def tX0_only_4 : List am_En := [(64, .iconst 0, 65, []), (65, .iload_n 1, 66, []), (66, .iconst (-1), 67, []), (67, .iload_n 3, 68, []), (68, .invokevirtual 81, 71, []), (71, .istore 4, 73, []), (73, .aload_n 0, 74, []), (74, .getfield 20, 77, []), (77, .getfield 85, 80, [])]
theorem kX0_only_4 : tX0_only_4.all (am_okE cX0_only) = true := by decide +kernel
def tX0_only_5 : List am_En := [(80, .iload 4, 82, []), (82, .iload_n 2, 83, []), (83, .iastore, 84, []), (84, .aload_n 0, 85, []), (85, .getfield 20, 88, []), (88, .getfield 105, 91, []), (91, .iload 4, 93, []), (93, .iload_n 3, 94, []), (94, .i2b, 95, []), (95, .bastore, 96, [])]
theorem kX0_only_5 : tX0_only_5.all (am_okE cX0_only) = true := by decide +kernel
def tX0_only_6 : List am_En := [(96, .iload 4, 98, []), (98, .ireturn, 99, [])]
theorem kX0_only_6 : tX0_only_6.all (am_okE cX0_only) = true := by decide +kernel
def tX0_only : List (List am_En) := [tX0_only_0, tX0_only_1, tX0_only_2, tX0_only_3, tX0_only_4, tX0_only_5, tX0_only_6]
def mX0_only : am_MR := (yX0_only, cX0_only, 5, (some .int), 0, 3, (0, 0), tX0_only)
theorem kX0_only : am_chk cX0_only tX0_only = true := am_chk_c kX0_only_0 (am_chk_c kX0_only_1 (am_chk_c kX0_only_2 (am_chk_c kX0_only_3 (am_chk_c kX0_only_4 (am_chk_c kX0_only_5 (am_chk_c kX0_only_6 (rfl)))))))
def tX0_pairs_0 : List am_En := [(0, .aload_n 0, 1, []), (1, .iload_n 1, 2, []), (2, .iconst 2, 3, []), (3, .iload_n 2, 4, []), (4, .iconst 2, 5, []), (5, .invokevirtual 95, 8, []), (8, .ifCond .eq 46, 11, [54]), (11, .aload_n 0, 12, []), (12, .iload_n 1, 13, []), (13, .iload_n 2, 14, []), (14, .invokevirtual 119, 17, [])]
theorem kX0_pairs_0 : tX0_pairs_0.all (am_okE cX0_pairs) = true := by decide +kernel
def tX0_pairs_1 : List am_En := [(17, .ifCond .eq 37, 20, [54]), (20, .aload_n 0, 21, []), (21, .getfield 20, 24, []), (24, .bipush 15, 26, []), (26, .iconst 0, 27, []), (27, .iload_n 1, 28, []), (28, .iload_n 2, 29, []), (29, .aload_n 0, 30, []), (30, .getfield 20, 33, [])]
theorem kX0_pairs_1 : tX0_pairs_1.all (am_okE cX0_pairs) = true := by decide +kernel
def tX0_pairs_2 : List am_En := [(33, .getfield 109, 36, []), (36, .iload_n 1, 37, []), (37, .baload, 38, []), (38, .aload_n 0, 39, []), (39, .getfield 20, 42, []), (42, .getfield 109, 45, []), (45, .iload_n 2, 46, []), (46, .baload, 47, []), (47, .iadd, 48, [])]
theorem kX0_pairs_2 : tX0_pairs_2.all (am_okE cX0_pairs) = true := by decide +kernel
def tX0_pairs_3 : List am_En := [(48, .invokevirtual 81, 51, []), (51, .goto 4, 54, [55]), (54, .iconst (-1), 55, []), (55, .ireturn, 56, [])]
theorem kX0_pairs_3 : tX0_pairs_3.all (am_okE cX0_pairs) = true := by decide +kernel
def tX0_pairs : List (List am_En) := [tX0_pairs_0, tX0_pairs_1, tX0_pairs_2, tX0_pairs_3]
def mX0_pairs : am_MR := (yX0_pairs, cX0_pairs, 3, (some .int), 0, 2, (0, 0), tX0_pairs)
theorem kX0_pairs : am_chk cX0_pairs tX0_pairs = true := am_chk_c kX0_pairs_0 (am_chk_c kX0_pairs_1 (am_chk_c kX0_pairs_2 (am_chk_c kX0_pairs_3 (rfl))))
def tX0_isNarrow_0 : List am_En := [(0, .aload_n 0, 1, []), (1, .getfield 20, 4, []), (4, .getfield 109, 7, []), (7, .iload_n 1, 8, []), (8, .baload, 9, []), (9, .aload_n 0, 10, []), (10, .getfield 20, 13, []), (13, .getfield 109, 16, [])]
theorem kX0_isNarrow_0 : tX0_isNarrow_0.all (am_okE cX0_isNarrow) = true := by decide +kernel
def tX0_isNarrow_1 : List am_En := [(16, .iload_n 2, 17, []), (17, .baload, 18, []), (18, .iadd, 19, []), (19, .bipush 8, 21, []), (21, .if_icmp .gt 7, 24, [28]), (24, .iconst 1, 25, []), (25, .goto 4, 28, [29]), (28, .iconst 0, 29, []), (29, .ireturn, 30, [])]
theorem kX0_isNarrow_1 : tX0_isNarrow_1.all (am_okE cX0_isNarrow) = true := by decide +kernel
def tX0_isNarrow : List (List am_En) := [tX0_isNarrow_0, tX0_isNarrow_1]
def mX0_isNarrow : am_MR := (yX0_isNarrow, cX0_isNarrow, 3, (some .boolean), 0, 2, (0, 0), tX0_isNarrow)
theorem kX0_isNarrow : am_chk cX0_isNarrow tX0_isNarrow = true := am_chk_c kX0_isNarrow_0 (am_chk_c kX0_isNarrow_1 (rfl))
def tX0_apply_0 : List am_En := [(0, .aload_n 0, 1, []), (1, .iload_n 2, 2, []), (2, .iconst 2, 3, []), (3, .iload_n 3, 4, []), (4, .iconst 2, 5, []), (5, .invokevirtual 95, 8, []), (8, .ifCond .eq 38, 11, [46]), (11, .iload_n 1, 12, []), (12, .iconst 0, 13, []), (13, .iconst 3, 14, []), (14, .invokestatic 57, 17, [])]
theorem kX0_apply_0 : tX0_apply_0.all (am_okE cX0_apply) = true := by decide +kernel
def tX0_apply_1 : List am_En := [(17, .ifCond .eq 29, 20, [46]), (20, .aload_n 0, 21, []), (21, .getfield 20, 24, []), (24, .iload_n 2, 25, []), (25, .iload_n 3, 26, []), (26, .invokevirtual 116, 29, []), (29, .ifCond .eq 17, 32, [46])]
theorem kX0_apply_1 : tX0_apply_1.all (am_okE cX0_apply) = true := by decide +kernel
def tX0_apply_2 : List am_En := [(32, .iload_n 1, 33, []), (33, .iconst 2, 34, []), (34, .if_icmp .ge 14, 37, [48]), (37, .aload_n 0, 38, []), (38, .iload_n 2, 39, []), (39, .iload_n 3, 40, []), (40, .invokevirtual 119, 43, []), (43, .ifCond .ne 5, 46, [48]), (46, .iconst (-1), 47, []), (47, .ireturn, 48, [])]
theorem kX0_apply_2 : tX0_apply_2.all (am_okE cX0_apply) = true := by decide +kernel
def tX0_apply_3 : List am_En := [(48, .aload_n 0, 49, []), (49, .getfield 20, 52, []), (52, .bipush 16, 54, []), (54, .iload_n 1, 55, []), (55, .iload_n 2, 56, []), (56, .iload_n 3, 57, []), (57, .aload_n 0, 58, []), (58, .getfield 20, 61, []), (61, .getfield 109, 64, [])]
theorem kX0_apply_3 : tX0_apply_3.all (am_okE cX0_apply) = true := by decide +kernel
def tX0_apply_4 : List am_En := [(64, .iload_n 2, 65, []), (65, .baload, 66, []), (66, .iload_n 1, 67, []), (67, .iconst 2, 68, []), (68, .if_icmp .ge 15, 71, [83]), (71, .aload_n 0, 72, []), (72, .getfield 20, 75, []), (75, .getfield 109, 78, []), (78, .iload_n 3, 79, []), (79, .baload, 80, [])]
theorem kX0_apply_4 : tX0_apply_4.all (am_okE cX0_apply) = true := by decide +kernel
def tX0_apply_5 : List am_En := [(80, .goto 4, 83, [84]), (83, .iconst 0, 84, []), (84, .iadd, 85, []), (85, .invokevirtual 81, 88, []), (88, .ireturn, 89, [])]
theorem kX0_apply_5 : tX0_apply_5.all (am_okE cX0_apply) = true := by decide +kernel
def tX0_apply : List (List am_En) := [tX0_apply_0, tX0_apply_1, tX0_apply_2, tX0_apply_3, tX0_apply_4, tX0_apply_5]
def mX0_apply : am_MR := (yX0_apply, cX0_apply, 4, (some .int), 0, 3, (0, 0), tX0_apply)
theorem kX0_apply : am_chk cX0_apply tX0_apply = true := am_chk_c kX0_apply_0 (am_chk_c kX0_apply_1 (am_chk_c kX0_apply_2 (am_chk_c kX0_apply_3 (am_chk_c kX0_apply_4 (am_chk_c kX0_apply_5 (rfl))))))
def tX0_both_0 : List am_En := [(0, .aload_n 0, 1, []), (1, .iload_n 2, 2, []), (2, .iconst 2, 3, []), (3, .iload_n 3, 4, []), (4, .iconst 2, 5, []), (5, .invokevirtual 95, 8, []), (8, .ifCond .eq 37, 11, [45]), (11, .iload_n 1, 12, []), (12, .iconst 0, 13, []), (13, .iconst 2, 14, []), (14, .invokestatic 57, 17, [])]
theorem kX0_both_0 : tX0_both_0.all (am_okE cX0_both) = true := by decide +kernel
def tX0_both_1 : List am_En := [(17, .ifCond .eq 28, 20, [45]), (20, .aload_n 0, 21, []), (21, .getfield 20, 24, []), (24, .getfield 109, 27, []), (27, .iload_n 2, 28, []), (28, .baload, 29, []), (29, .aload_n 0, 30, []), (30, .getfield 20, 33, [])]
theorem kX0_both_1 : tX0_both_1.all (am_okE cX0_both) = true := by decide +kernel
def tX0_both_2 : List am_En := [(33, .getfield 109, 36, []), (36, .iload_n 3, 37, []), (37, .baload, 38, []), (38, .if_icmp .ne 7, 41, [45]), (41, .iconst 1, 42, []), (42, .goto 4, 45, [46]), (45, .iconst 0, 46, []), (46, .istore 4, 48, [])]
theorem kX0_both_2 : tX0_both_2.all (am_okE cX0_both) = true := by decide +kernel
def tX0_both_3 : List am_En := [(48, .iload 4, 50, []), (50, .ifCond .eq 27, 53, [77]), (53, .aload_n 0, 54, []), (54, .getfield 20, 57, []), (57, .bipush 17, 59, []), (59, .iload_n 1, 60, []), (60, .iload_n 2, 61, []), (61, .iload_n 3, 62, []), (62, .aload_n 0, 63, []), (63, .getfield 20, 66, [])]
theorem kX0_both_3 : tX0_both_3.all (am_okE cX0_both) = true := by decide +kernel
def tX0_both_4 : List am_En := [(66, .getfield 109, 69, []), (69, .iload_n 2, 70, []), (70, .baload, 71, []), (71, .invokevirtual 81, 74, []), (74, .goto 4, 77, [78]), (77, .iconst (-1), 78, []), (78, .ireturn, 79, [])]
theorem kX0_both_4 : tX0_both_4.all (am_okE cX0_both) = true := by decide +kernel
def tX0_both : List (List am_En) := [tX0_both_0, tX0_both_1, tX0_both_2, tX0_both_3, tX0_both_4]
def mX0_both : am_MR := (yX0_both, cX0_both, 5, (some .int), 0, 3, (0, 0), tX0_both)
theorem kX0_both : am_chk cX0_both tX0_both = true := am_chk_c kX0_both_0 (am_chk_c kX0_both_1 (am_chk_c kX0_both_2 (am_chk_c kX0_both_3 (am_chk_c kX0_both_4 (rfl)))))
def tX0_once_0 : List am_En := [(0, .aload_n 0, 1, []), (1, .iload_n 1, 2, []), (2, .iconst 2, 3, []), (3, .invokevirtual 99, 6, []), (6, .ifCond .eq 27, 9, [33]), (9, .aload_n 0, 10, []), (10, .getfield 20, 13, []), (13, .bipush 18, 15, []), (15, .iconst 0, 16, [])]
theorem kX0_once_0 : tX0_once_0.all (am_okE cX0_once) = true := by decide +kernel
def tX0_once_1 : List am_En := [(16, .iload_n 1, 17, []), (17, .iconst (-1), 18, []), (18, .aload_n 0, 19, []), (19, .getfield 20, 22, []), (22, .getfield 109, 25, []), (25, .iload_n 1, 26, []), (26, .baload, 27, []), (27, .invokevirtual 81, 30, []), (30, .goto 4, 33, [34])]
theorem kX0_once_1 : tX0_once_1.all (am_okE cX0_once) = true := by decide +kernel
def tX0_once_2 : List am_En := [(33, .iconst (-1), 34, []), (34, .ireturn, 35, [])]
theorem kX0_once_2 : tX0_once_2.all (am_okE cX0_once) = true := by decide +kernel
def tX0_once : List (List am_En) := [tX0_once_0, tX0_once_1, tX0_once_2]
def mX0_once : am_MR := (yX0_once, cX0_once, 2, (some .int), 0, 1, (0, 0), tX0_once)
theorem kX0_once : am_chk cX0_once tX0_once = true := am_chk_c kX0_once_0 (am_chk_c kX0_once_1 (am_chk_c kX0_once_2 (rfl)))
def tX0_first_0 : List am_En := [(0, .aload_n 0, 1, []), (1, .iload_n 1, 2, []), (2, .iconst 2, 3, []), (3, .invokevirtual 99, 6, []), (6, .ifCond .eq 13, 9, [19]), (9, .iload_n 2, 10, []), (10, .iconst 1, 11, []), (11, .bipush 24, 13, []), (13, .invokestatic 57, 16, [])]
theorem kX0_first_0 : tX0_first_0.all (am_okE cX0_first) = true := by decide +kernel
def tX0_first_1 : List am_En := [(16, .ifCond .ne 5, 19, [21]), (19, .iconst (-1), 20, []), (20, .ireturn, 21, []), (21, .aload_n 0, 22, []), (22, .getfield 20, 25, []), (25, .bipush 19, 27, []), (27, .iconst 0, 28, []), (28, .iload_n 1, 29, []), (29, .iconst (-1), 30, []), (30, .aload_n 0, 31, []), (31, .getfield 20, 34, [])]
theorem kX0_first_1 : tX0_first_1.all (am_okE cX0_first) = true := by decide +kernel
def tX0_first_2 : List am_En := [(34, .getfield 109, 37, []), (37, .iload_n 1, 38, []), (38, .baload, 39, []), (39, .invokevirtual 81, 42, []), (42, .istore_n 3, 43, []), (43, .aload_n 0, 44, []), (44, .getfield 20, 47, []), (47, .getfield 85, 50, [])]
theorem kX0_first_2 : tX0_first_2.all (am_okE cX0_first) = true := by decide +kernel
def tX0_first_3 : List am_En := [(50, .iload_n 3, 51, []), (51, .iload_n 2, 52, []), (52, .iastore, 53, []), (53, .iload_n 3, 54, []), (54, .ireturn, 55, [])]
theorem kX0_first_3 : tX0_first_3.all (am_okE cX0_first) = true := by decide +kernel
def tX0_first : List (List am_En) := [tX0_first_0, tX0_first_1, tX0_first_2, tX0_first_3]
def mX0_first : am_MR := (yX0_first, cX0_first, 4, (some .int), 0, 2, (0, 0), tX0_first)
theorem kX0_first : am_chk cX0_first tX0_first = true := am_chk_c kX0_first_0 (am_chk_c kX0_first_1 (am_chk_c kX0_first_2 (am_chk_c kX0_first_3 (rfl))))
def tX0_groups_0 : List am_En := [(0, .aload_n 0, 1, []), (1, .iload_n 1, 2, []), (2, .iconst 2, 3, []), (3, .invokevirtual 99, 6, []), (6, .ifCond .eq 55, 9, [61]), (9, .iload_n 3, 10, []), (10, .iconst 0, 11, []), (11, .iconst 5, 12, []), (12, .invokestatic 57, 15, []), (15, .ifCond .eq 46, 18, [61])]
theorem kX0_groups_0 : tX0_groups_0.all (am_okE cX0_groups) = true := by decide +kernel
def tX0_groups_1 : List am_En := [(18, .aload_n 0, 19, []), (19, .getfield 20, 22, []), (22, .iload_n 1, 23, []), (23, .iload 4, 25, []), (25, .invokevirtual 102, 28, []), (28, .ifCond .eq 33, 31, [61]), (31, .iload_n 2, 32, [])]
theorem kX0_groups_1 : tX0_groups_1.all (am_okE cX0_groups) = true := by decide +kernel
def tX0_groups_2 : List am_En := [(32, .iconst 0, 33, []), (33, .iconst 1, 34, []), (34, .aload_n 0, 35, []), (35, .getfield 20, 38, []), (38, .getfield 109, 41, []), (41, .iload_n 1, 42, []), (42, .baload, 43, []), (43, .ishl, 44, []), (44, .iconst 1, 45, []), (45, .isub, 46, []), (46, .invokestatic 57, 49, [])]
theorem kX0_groups_2 : tX0_groups_2.all (am_okE cX0_groups) = true := by decide +kernel
def tX0_groups_3 : List am_En := [(49, .ifCond .eq 12, 52, [61]), (52, .iload_n 2, 53, []), (53, .invokestatic 122, 56, []), (56, .bipush 8, 58, []), (58, .if_icmp .ne 5, 61, [63]), (61, .iconst (-1), 62, []), (62, .ireturn, 63, []), (63, .aload_n 0, 64, [])]
theorem kX0_groups_3 : tX0_groups_3.all (am_okE cX0_groups) = true := by decide +kernel
def tX0_groups_4 : List am_En := [(64, .getfield 20, 67, []), (67, .bipush 20, 69, []), (69, .iload_n 3, 70, []), (70, .iload_n 1, 71, []), (71, .iconst (-1), 72, []), (72, .iload_n 2, 73, []), (73, .invokestatic 122, 76, []), (76, .iconst 1, 77, []), (77, .iadd, 78, []), (78, .invokevirtual 81, 81, [])]
theorem kX0_groups_4 : tX0_groups_4.all (am_okE cX0_groups) = true := by decide +kernel
def tX0_groups_5 : List am_En := [(81, .istore 5, 83, []), (83, .aload_n 0, 84, []), (84, .getfield 20, 87, []), (87, .getfield 85, 90, []), (90, .iload 5, 92, []), (92, .iload_n 2, 93, []), (93, .iastore, 94, []), (94, .aload_n 0, 95, []), (95, .getfield 20, 98, [])]
theorem kX0_groups_5 : tX0_groups_5.all (am_okE cX0_groups) = true := by decide +kernel
def tX0_groups_6 : List am_En := [(98, .getfield 105, 101, []), (101, .iload 5, 103, []), (103, .iload 4, 105, []), (105, .i2b, 106, []), (106, .bastore, 107, []), (107, .iload 5, 109, []), (109, .ireturn, 110, [])]
theorem kX0_groups_6 : tX0_groups_6.all (am_okE cX0_groups) = true := by decide +kernel
def tX0_groups : List (List am_En) := [tX0_groups_0, tX0_groups_1, tX0_groups_2, tX0_groups_3, tX0_groups_4, tX0_groups_5, tX0_groups_6]
def mX0_groups : am_MR := (yX0_groups, cX0_groups, 6, (some .int), 0, 4, (0, 0), tX0_groups)
theorem kX0_groups : am_chk cX0_groups tX0_groups = true := am_chk_c kX0_groups_0 (am_chk_c kX0_groups_1 (am_chk_c kX0_groups_2 (am_chk_c kX0_groups_3 (am_chk_c kX0_groups_4 (am_chk_c kX0_groups_5 (am_chk_c kX0_groups_6 (rfl)))))))
def tX0_forget_0 : List am_En := [(0, .aload_n 0, 1, []), (1, .getfield 20, 4, []), (4, .getfield 128, 7, []), (7, .istore_n 1, 8, []), (8, .aload_n 0, 9, []), (9, .getfield 20, 12, []), (12, .iconst 0, 13, []), (13, .putfield 128, 16, [])]
theorem kX0_forget_0 : tX0_forget_0.all (am_okE cX0_forget) = true := by decide +kernel
def tX0_forget_1 : List am_En := [(16, .iload_n 1, 17, []), (17, .ireturn, 18, [])]
theorem kX0_forget_1 : tX0_forget_1.all (am_okE cX0_forget) = true := by decide +kernel
def tX0_forget : List (List am_En) := [tX0_forget_0, tX0_forget_1]
def mX0_forget : am_MR := (yX0_forget, cX0_forget, 2, (some .int), 0, 0, (0, 0), tX0_forget)
theorem kX0_forget : am_chk cX0_forget tX0_forget = true := am_chk_c kX0_forget_0 (am_chk_c kX0_forget_1 (rfl))
def tX0_told_0 : List am_En := [(0, .iload_n 1, 1, []), (1, .ifCond .lt 24, 4, [25]), (4, .iload_n 1, 5, []), (5, .aload_n 0, 6, []), (6, .getfield 20, 9, []), (9, .getfield 128, 12, []), (12, .if_icmp .ge 13, 15, [25]), (15, .iload_n 2, 16, [])]
theorem kX0_told_0 : tX0_told_0.all (am_okE cX0_told) = true := by decide +kernel
def tX0_told_1 : List am_En := [(16, .iconst 0, 17, []), (17, .bipush 7, 19, []), (19, .invokestatic 57, 22, []), (22, .ifCond .ne 5, 25, [27]), (25, .iconst (-1), 26, []), (26, .ireturn, 27, []), (27, .iload_n 2, 28, []), (28, .tableswitch 89 0 7 #[48, 61, 71, 89, 89, 89, 89, 80], 76, [117, 76, 89, 99, 117, 117, 117, 117, 108])]
theorem kX0_told_1 : tX0_told_1.all (am_okE cX0_told) = true := by decide +kernel
def tX0_told_2 : List am_En := []
theorem kX0_told_2 : tX0_told_2.all (am_okE cX0_told) = true := by decide +kernel
def tX0_told_3 : List am_En := []
theorem kX0_told_3 : tX0_told_3.all (am_okE cX0_told) = true := by decide +kernel
def tX0_told_4 : List am_En := [(76, .aload_n 0, 77, []), (77, .getfield 20, 80, [])]
theorem kX0_told_4 : tX0_told_4.all (am_okE cX0_told) = true := by decide +kernel
def tX0_told_5 : List am_En := [(80, .getfield 131, 83, []), (83, .iload_n 1, 84, []), (84, .baload, 85, []), (85, .invokestatic 134, 88, []), (88, .ireturn, 89, []), (89, .aload_n 0, 90, []), (90, .getfield 20, 93, []), (93, .getfield 109, 96, [])]
theorem kX0_told_5 : tX0_told_5.all (am_okE cX0_told) = true := by decide +kernel
def tX0_told_6 : List am_En := [(96, .iload_n 1, 97, []), (97, .baload, 98, []), (98, .ireturn, 99, []), (99, .aload_n 0, 100, []), (100, .getfield 20, 103, []), (103, .iload_n 1, 104, []), (104, .invokevirtual 137, 107, []), (107, .ireturn, 108, []), (108, .aload_n 0, 109, []), (109, .getfield 20, 112, [])]
theorem kX0_told_6 : tX0_told_6.all (am_okE cX0_told) = true := by decide +kernel
def tX0_told_7 : List am_En := [(112, .iload_n 1, 113, []), (113, .invokevirtual 140, 116, []), (116, .ireturn, 117, []), (117, .aload_n 0, 118, []), (118, .getfield 20, 121, []), (121, .getfield 88, 124, []), (124, .iload_n 1, 125, []), (125, .iaload, 126, []), (126, .iload_n 2, 127, []), (127, .iconst 3, 128, [])]
theorem kX0_told_7 : tX0_told_7.all (am_okE cX0_told) = true := by decide +kernel
def tX0_told_8 : List am_En := [(128, .isub, 129, []), (129, .bipush 8, 131, []), (131, .imul, 132, []), (132, .iushr, 133, []), (133, .sipush 255, 136, []), (136, .iand, 137, []), (137, .ireturn, 138, [])]
theorem kX0_told_8 : tX0_told_8.all (am_okE cX0_told) = true := by decide +kernel
def tX0_told : List (List am_En) := [tX0_told_0, tX0_told_1, tX0_told_2, tX0_told_3, tX0_told_4, tX0_told_5, tX0_told_6, tX0_told_7, tX0_told_8]
def mX0_told : am_MR := (yX0_told, cX0_told, 3, (some .int), 0, 2, (0, 0), tX0_told)
theorem kX0_told : am_chk cX0_told tX0_told = true := am_chk_c kX0_told_0 (am_chk_c kX0_told_1 (am_chk_c kX0_told_2 (am_chk_c kX0_told_3 (am_chk_c kX0_told_4 (am_chk_c kX0_told_5 (am_chk_c kX0_told_6 (am_chk_c kX0_told_7 (am_chk_c kX0_told_8 (rfl)))))))))
def tX0_run_0 : List am_En := [(0, .aload_n 0, 1, []), (1, .getfield 20, 4, []), (4, .iload_n 1, 5, []), (5, .invokevirtual 143, 8, []), (8, .ifCond .ne 5, 11, [13]), (11, .iconst (-1), 12, []), (12, .ireturn, 13, []), (13, .aload_n 0, 14, []), (14, .getfield 20, 17, [])]
theorem kX0_run_0 : tX0_run_0.all (am_okE cX0_run) = true := by decide +kernel
def tX0_run_1 : List am_En := [(17, .getfield 88, 20, []), (20, .iload_n 1, 21, []), (21, .iaload, 22, []), (22, .ifCond .eq 6, 25, [28]), (25, .bipush (-2), 27, []), (27, .ireturn, 28, []), (28, .aload_n 0, 29, []), (29, .getfield 20, 32, [])]
theorem kX0_run_1 : tX0_run_1.all (am_okE cX0_run) = true := by decide +kernel
def tX0_run_2 : List am_En := [(32, .iload_n 1, 33, []), (33, .invokevirtual 137, 36, []), (36, .sipush 3000, 39, []), (39, .if_icmp .le 6, 42, [45]), (42, .bipush (-3), 44, []), (44, .ireturn, 45, []), (45, .aload_n 0, 46, []), (46, .getfield 36, 49, [])]
theorem kX0_run_2 : tX0_run_2.all (am_okE cX0_run) = true := by decide +kernel
def tX0_run_3 : List am_En := [(49, .iload_n 1, 50, []), (50, .invokevirtual 146, 53, []), (53, .istore_n 2, 54, []), (54, .aload_n 0, 55, []), (55, .getfield 45, 58, []), (58, .iload_n 2, 59, []), (59, .invokevirtual 149, 62, []), (62, .aload_n 0, 63, []), (63, .getfield 45, 66, [])]
theorem kX0_run_3 : tX0_run_3.all (am_okE cX0_run) = true := by decide +kernel
def tX0_run_4 : List am_En := [(66, .iload_n 2, 67, []), (67, .invokevirtual 152, 70, []), (70, .aload_n 0, 71, []), (71, .aload_n 0, 72, []), (72, .getfield 45, 75, []), (75, .getfield 154, 78, []), (78, .iload_n 2, 79, []), (79, .iaload, 80, [])]
theorem kX0_run_4 : tX0_run_4.all (am_okE cX0_run) = true := by decide +kernel
def tX0_run_5 : List am_En := [(80, .putfield 156, 83, []), (83, .aload_n 0, 84, []), (84, .aload_n 0, 85, []), (85, .getfield 45, 88, []), (88, .getfield 159, 91, []), (91, .iload_n 2, 92, []), (92, .iaload, 93, []), (93, .putfield 161, 96, [])]
theorem kX0_run_5 : tX0_run_5.all (am_okE cX0_run) = true := by decide +kernel
def tX0_run_6 : List am_En := [(96, .iconst 0, 97, []), (97, .istore_n 3, 98, []), (98, .iload_n 3, 99, []), (99, .aload_n 0, 100, []), (100, .getfield 156, 103, []), (103, .if_icmp .ge 52, 106, [155]), (106, .iconst 0, 107, []), (107, .istore 4, 109, []), (109, .iload 4, 111, []), (111, .aload_n 0, 112, [])]
theorem kX0_run_6 : tX0_run_6.all (am_okE cX0_run) = true := by decide +kernel
def tX0_run_7 : List am_En := [(112, .getfield 161, 115, []), (115, .if_icmp .ge 34, 118, [149]), (118, .aload_n 0, 119, []), (119, .getfield 49, 122, []), (122, .iload_n 3, 123, []), (123, .aload_n 0, 124, []), (124, .getfield 161, 127, []), (127, .imul, 128, [])]
theorem kX0_run_7 : tX0_run_7.all (am_okE cX0_run) = true := by decide +kernel
def tX0_run_8 : List am_En := [(128, .iload 4, 130, []), (130, .iadd, 131, []), (131, .aload_n 0, 132, []), (132, .getfield 45, 135, []), (135, .iload_n 2, 136, []), (136, .iload_n 3, 137, []), (137, .iload 4, 139, []), (139, .invokevirtual 164, 142, []), (142, .iastore, 143, []), (143, .iinc 4 1, 146, [])]
theorem kX0_run_8 : tX0_run_8.all (am_okE cX0_run) = true := by decide +kernel
def tX0_run_9 : List am_En := [(146, .goto (-37), 149, [109]), (149, .iinc 3 1, 152, []), (152, .goto (-54), 155, [98]), (155, .aload_n 0, 156, []), (156, .getfield 156, 159, []), (159, .ireturn, 160, [])]
theorem kX0_run_9 : tX0_run_9.all (am_okE cX0_run) = true := by decide +kernel
def tX0_run : List (List am_En) := [tX0_run_0, tX0_run_1, tX0_run_2, tX0_run_3, tX0_run_4, tX0_run_5, tX0_run_6, tX0_run_7, tX0_run_8, tX0_run_9]
def mX0_run : am_MR := (yX0_run, cX0_run, 5, (some .int), 0, 1, (0, 0), tX0_run)
theorem kX0_run : am_chk cX0_run tX0_run = true := am_chk_c kX0_run_0 (am_chk_c kX0_run_1 (am_chk_c kX0_run_2 (am_chk_c kX0_run_3 (am_chk_c kX0_run_4 (am_chk_c kX0_run_5 (am_chk_c kX0_run_6 (am_chk_c kX0_run_7 (am_chk_c kX0_run_8 (am_chk_c kX0_run_9 (rfl))))))))))
def tX0_cell_0 : List am_En := [(0, .iload_n 1, 1, []), (1, .ifCond .lt 23, 4, [24]), (4, .iload_n 1, 5, []), (5, .aload_n 0, 6, []), (6, .getfield 156, 9, []), (9, .if_icmp .ge 15, 12, [24]), (12, .iload_n 2, 13, []), (13, .ifCond .lt 11, 16, [24])]
theorem kX0_cell_0 : tX0_cell_0.all (am_okE cX0_cell) = true := by decide +kernel
def tX0_cell_1 : List am_En := [(16, .iload_n 2, 17, []), (17, .aload_n 0, 18, []), (18, .getfield 161, 21, []), (21, .if_icmp .lt 9, 24, [30]), (24, .ldc2_w 168, 27, []), (27, .goto 17, 30, [44]), (30, .aload_n 0, 31, []), (31, .getfield 49, 34, [])]
theorem kX0_cell_1 : tX0_cell_1.all (am_okE cX0_cell) = true := by decide +kernel
def tX0_cell_2 : List am_En := [(34, .iload_n 1, 35, []), (35, .aload_n 0, 36, []), (36, .getfield 161, 39, []), (39, .imul, 40, []), (40, .iload_n 2, 41, []), (41, .iadd, 42, []), (42, .iaload, 43, []), (43, .i2l, 44, []), (44, .lreturn, 45, [])]
theorem kX0_cell_2 : tX0_cell_2.all (am_okE cX0_cell) = true := by decide +kernel
def tX0_cell : List (List am_En) := [tX0_cell_0, tX0_cell_1, tX0_cell_2]
def mX0_cell : am_MR := (yX0_cell, cX0_cell, 3, (some .long), 0, 2, (0, 0), tX0_cell)
theorem kX0_cell : am_chk cX0_cell tX0_cell = true := am_chk_c kX0_cell_0 (am_chk_c kX0_cell_1 (am_chk_c kX0_cell_2 (rfl)))
def tX0_count_0 : List am_En := [(0, .iload_n 1, 1, []), (1, .tableswitch 54 0 3 #[31, 36, 44, 49], 32, [55, 32, 37, 45, 50])]
theorem kX0_count_0 : tX0_count_0.all (am_okE cX0_count) = true := by decide +kernel
def tX0_count_1 : List am_En := []
theorem kX0_count_1 : tX0_count_1.all (am_okE cX0_count) = true := by decide +kernel
def tX0_count_2 : List am_En := [(32, .aload_n 0, 33, []), (33, .getfield 53, 36, []), (36, .ireturn, 37, []), (37, .aload_n 0, 38, []), (38, .getfield 20, 41, []), (41, .getfield 128, 44, []), (44, .ireturn, 45, []), (45, .aload_n 0, 46, []), (46, .getfield 156, 49, [])]
theorem kX0_count_2 : tX0_count_2.all (am_okE cX0_count) = true := by decide +kernel
def tX0_count_3 : List am_En := [(49, .ireturn, 50, []), (50, .aload_n 0, 51, []), (51, .getfield 161, 54, []), (54, .ireturn, 55, []), (55, .iconst (-1), 56, []), (56, .ireturn, 57, [])]
theorem kX0_count_3 : tX0_count_3.all (am_okE cX0_count) = true := by decide +kernel
def tX0_count : List (List am_En) := [tX0_count_0, tX0_count_1, tX0_count_2, tX0_count_3]
def mX0_count : am_MR := (yX0_count, cX0_count, 2, (some .int), 0, 1, (0, 0), tX0_count)
theorem kX0_count : am_chk cX0_count tX0_count = true := am_chk_c kX0_count_0 (am_chk_c kX0_count_1 (am_chk_c kX0_count_2 (am_chk_c kX0_count_3 (rfl))))
def tX1_init_0 : List am_En := [(0, .aload_n 0, 1, []), (1, .invokespecial 3, 4, []), (4, .aload_n 0, 5, []), (5, .bipush 120, 7, []), (7, .newarray .byte, 9, []), (9, .putfield 9, 12, []), (12, .aload_n 0, 13, []), (13, .bipush 120, 15, []), (15, .newarray .byte, 17, [])]
theorem kX1_init_0 : tX1_init_0.all (am_okE cX1_init) = true := by decide +kernel
def tX1_init_1 : List am_En := [(17, .putfield 15, 20, []), (20, .aload_n 0, 21, []), (21, .bipush 120, 23, []), (23, .newarray .short, 25, []), (25, .putfield 18, 28, []), (28, .aload_n 0, 29, []), (29, .bipush 120, 31, []), (31, .newarray .short, 33, [])]
theorem kX1_init_1 : tX1_init_1.all (am_okE cX1_init) = true := by decide +kernel
def tX1_init_2 : List am_En := [(33, .putfield 22, 36, []), (36, .aload_n 0, 37, []), (37, .bipush 120, 39, []), (39, .newarray .int, 41, []), (41, .putfield 25, 44, []), (44, .aload_n 0, 45, []), (45, .bipush 120, 47, []), (47, .newarray .byte, 49, [])]
theorem kX1_init_2 : tX1_init_2.all (am_okE cX1_init) = true := by decide +kernel
def tX1_init_3 : List am_En := [(49, .putfield 29, 52, []), (52, .aload_n 0, 53, []), (53, .bipush 120, 55, []), (55, .newarray .byte, 57, []), (57, .putfield 32, 60, []), (60, .aload_n 0, 61, []), (61, .bipush 120, 63, []), (63, .newarray .int, 65, [])]
theorem kX1_init_3 : tX1_init_3.all (am_okE cX1_init) = true := by decide +kernel
def tX1_init_4 : List am_En := [(65, .putfield 35, 68, []), (68, .aload_n 0, 69, []), (69, .bipush 120, 71, []), (71, .newarray .int, 73, []), (73, .putfield 38, 76, []), (76, .aload_n 0, 77, []), (77, .bipush 120, 79, []), (79, .newarray .int, 81, [])]
theorem kX1_init_4 : tX1_init_4.all (am_okE cX1_init) = true := by decide +kernel
def tX1_init_5 : List am_En := [(81, .putfield 41, 84, []), (84, .aload_n 0, 85, []), (85, .aload_n 1, 86, []), (86, .putfield 44, 89, []), (89, .return_, 90, [])]
theorem kX1_init_5 : tX1_init_5.all (am_okE cX1_init) = true := by decide +kernel
def tX1_init : List (List am_En) := [tX1_init_0, tX1_init_1, tX1_init_2, tX1_init_3, tX1_init_4, tX1_init_5]
def mX1_init : am_MR := (yX1_init, cX1_init, 2, none, 1, 1, (10, 1200), tX1_init)
theorem kX1_init : am_chk cX1_init tX1_init = true := am_chk_c kX1_init_0 (am_chk_c kX1_init_1 (am_chk_c kX1_init_2 (am_chk_c kX1_init_3 (am_chk_c kX1_init_4 (am_chk_c kX1_init_5 (rfl))))))
def tX1_hasRoom_0 : List am_En := [(0, .aload_n 0, 1, []), (1, .getfield 48, 4, []), (4, .bipush 120, 6, []), (6, .if_icmp .ge 7, 9, [13]), (9, .iconst 1, 10, []), (10, .goto 4, 13, [14]), (13, .iconst 0, 14, []), (14, .ireturn, 15, [])]
theorem kX1_hasRoom_0 : tX1_hasRoom_0.all (am_okE cX1_hasRoom) = true := by decide +kernel
def tX1_hasRoom : List (List am_En) := [tX1_hasRoom_0]
def mX1_hasRoom : am_MR := (yX1_hasRoom, cX1_hasRoom, 1, (some .boolean), 1, 0, (0, 0), tX1_hasRoom)
theorem kX1_hasRoom : am_chk cX1_hasRoom tX1_hasRoom = true := am_chk_c kX1_hasRoom_0 (rfl)
def tX1_add_0 : List am_En := [(0, .aload_n 0, 1, []), (1, .dup, 2, []), (2, .getfield 48, 5, []), (5, .dup_x1, 6, []), (6, .iconst 1, 7, []), (7, .iadd, 8, []), (8, .putfield 48, 11, []), (11, .istore 6, 13, []), (13, .aload_n 0, 14, []), (14, .getfield 9, 17, [])]
theorem kX1_add_0 : tX1_add_0.all (am_okE cX1_add) = true := by decide +kernel
def tX1_add_1 : List am_En := [(17, .iload 6, 19, []), (19, .iload_n 1, 20, []), (20, .i2b, 21, []), (21, .bastore, 22, []), (22, .aload_n 0, 23, []), (23, .getfield 15, 26, []), (26, .iload 6, 28, []), (28, .iload_n 2, 29, []), (29, .i2b, 30, []), (30, .bastore, 31, []), (31, .aload_n 0, 32, [])]
theorem kX1_add_1 : tX1_add_1.all (am_okE cX1_add) = true := by decide +kernel
def tX1_add_2 : List am_En := [(32, .getfield 18, 35, []), (35, .iload 6, 37, []), (37, .iload_n 3, 38, []), (38, .i2s, 39, []), (39, .sastore, 40, []), (40, .aload_n 0, 41, []), (41, .getfield 22, 44, []), (44, .iload 6, 46, []), (46, .iload 4, 48, [])]
theorem kX1_add_2 : tX1_add_2.all (am_okE cX1_add) = true := by decide +kernel
def tX1_add_3 : List am_En := [(48, .i2s, 49, []), (49, .sastore, 50, []), (50, .aload_n 0, 51, []), (51, .getfield 25, 54, []), (54, .iload 6, 56, []), (56, .iconst 0, 57, []), (57, .iastore, 58, []), (58, .aload_n 0, 59, []), (59, .getfield 29, 62, []), (62, .iload 6, 64, [])]
theorem kX1_add_3 : tX1_add_3.all (am_okE cX1_add) = true := by decide +kernel
def tX1_add_4 : List am_En := [(64, .iconst 0, 65, []), (65, .bastore, 66, []), (66, .aload_n 0, 67, []), (67, .getfield 32, 70, []), (70, .iload 6, 72, []), (72, .iload 5, 74, []), (74, .i2b, 75, []), (75, .bastore, 76, []), (76, .iload 4, 78, []), (78, .ifCond .ge 7, 81, [85])]
theorem kX1_add_4 : tX1_add_4.all (am_okE cX1_add) = true := by decide +kernel
def tX1_add_5 : List am_En := [(81, .iconst 0, 82, []), (82, .goto 30, 85, [112]), (85, .iload_n 1, 86, []), (86, .invokestatic 60, 89, []), (89, .ifCond .eq 16, 92, [105]), (92, .aload_n 0, 93, []), (93, .getfield 35, 96, [])]
theorem kX1_add_5 : tX1_add_5.all (am_okE cX1_add) = true := by decide +kernel
def tX1_add_6 : List am_En := [(96, .iload 4, 98, []), (98, .iaload, 99, []), (99, .bipush 8, 101, []), (101, .iushr, 102, []), (102, .goto 10, 105, [112]), (105, .aload_n 0, 106, []), (106, .getfield 35, 109, []), (109, .iload 4, 111, []), (111, .iaload, 112, [])]
theorem kX1_add_6 : tX1_add_6.all (am_okE cX1_add) = true := by decide +kernel
def tX1_add_7 : List am_En := [(112, .istore 7, 114, []), (114, .aload_n 0, 115, []), (115, .getfield 35, 118, []), (118, .iload 6, 120, []), (120, .iload_n 3, 121, []), (121, .ifCond .ge 7, 124, [128]), (124, .iconst 0, 125, []), (125, .goto 9, 128, [134])]
theorem kX1_add_7 : tX1_add_7.all (am_okE cX1_add) = true := by decide +kernel
def tX1_add_8 : List am_En := [(128, .aload_n 0, 129, []), (129, .getfield 35, 132, []), (132, .iload_n 3, 133, []), (133, .iaload, 134, []), (134, .iload 7, 136, []), (136, .ior, 137, []), (137, .iastore, 138, []), (138, .iload 6, 140, []), (140, .ireturn, 141, [])]
theorem kX1_add_8 : tX1_add_8.all (am_okE cX1_add) = true := by decide +kernel
def tX1_add : List (List am_En) := [tX1_add_0, tX1_add_1, tX1_add_2, tX1_add_3, tX1_add_4, tX1_add_5, tX1_add_6, tX1_add_7, tX1_add_8]
def mX1_add : am_MR := (yX1_add, cX1_add, 8, (some .int), 1, 5, (0, 0), tX1_add)
theorem kX1_add : am_chk cX1_add tX1_add = true := am_chk_c kX1_add_0 (am_chk_c kX1_add_1 (am_chk_c kX1_add_2 (am_chk_c kX1_add_3 (am_chk_c kX1_add_4 (am_chk_c kX1_add_5 (am_chk_c kX1_add_6 (am_chk_c kX1_add_7 (am_chk_c kX1_add_8 (rfl)))))))))
def tX1_isInside_0 : List am_En := [(0, .iload_n 0, 1, []), (1, .bipush 12, 3, []), (3, .if_icmp .eq 15, 6, [18]), (6, .iload_n 0, 7, []), (7, .bipush 13, 9, []), (9, .if_icmp .eq 9, 12, [18]), (12, .iload_n 0, 13, []), (13, .bipush 16, 15, []), (15, .if_icmp .ne 7, 18, [22])]
theorem kX1_isInside_0 : tX1_isInside_0.all (am_okE cX1_isInside) = true := by decide +kernel
def tX1_isInside_1 : List am_En := [(18, .iconst 1, 19, []), (19, .goto 4, 22, [23]), (22, .iconst 0, 23, []), (23, .ireturn, 24, [])]
theorem kX1_isInside_1 : tX1_isInside_1.all (am_okE cX1_isInside) = true := by decide +kernel
def tX1_isInside : List (List am_En) := [tX1_isInside_0, tX1_isInside_1]
def mX1_isInside : am_MR := (yX1_isInside, cX1_isInside, 1, (some .boolean), 1, 1, (0, 0), tX1_isInside)
theorem kX1_isInside : am_chk cX1_isInside tX1_isInside = true := am_chk_c kX1_isInside_0 (am_chk_c kX1_isInside_1 (rfl))
def tX1_is_0 : List am_En := [(0, .iload_n 1, 1, []), (1, .ifCond .lt 28, 4, [29]), (4, .iload_n 1, 5, []), (5, .aload_n 0, 6, []), (6, .getfield 48, 9, []), (9, .if_icmp .ge 20, 12, [29]), (12, .aload_n 0, 13, []), (13, .getfield 9, 16, [])]
theorem kX1_is_0 : tX1_is_0.all (am_okE cX1_is) = true := by decide +kernel
def tX1_is_1 : List am_En := [(16, .iload_n 1, 17, []), (17, .baload, 18, []), (18, .invokestatic 52, 21, []), (21, .iload_n 2, 22, []), (22, .if_icmp .ne 7, 25, [29]), (25, .iconst 1, 26, []), (26, .goto 4, 29, [30]), (29, .iconst 0, 30, []), (30, .ireturn, 31, [])]
theorem kX1_is_1 : tX1_is_1.all (am_okE cX1_is) = true := by decide +kernel
def tX1_is : List (List am_En) := [tX1_is_0, tX1_is_1]
def mX1_is : am_MR := (yX1_is, cX1_is, 3, (some .boolean), 1, 2, (0, 0), tX1_is)
theorem kX1_is : am_chk cX1_is tX1_is = true := am_chk_c kX1_is_0 (am_chk_c kX1_is_1 (rfl))
def tX1_sort_0 : List am_En := [(0, .iload_n 0, 1, []), (1, .iconst 4, 2, []), (2, .if_icmp .gt 7, 5, [9]), (5, .iconst 0, 6, []), (6, .goto 14, 9, [20]), (9, .iload_n 0, 10, []), (10, .bipush 10, 12, []), (12, .if_icmp .gt 7, 15, [19]), (15, .iconst 1, 16, [])]
theorem kX1_sort_0 : tX1_sort_0.all (am_okE cX1_sort) = true := by decide +kernel
def tX1_sort_1 : List am_En := [(16, .goto 4, 19, [20]), (19, .iconst 2, 20, []), (20, .ireturn, 21, [])]
theorem kX1_sort_1 : tX1_sort_1.all (am_okE cX1_sort) = true := by decide +kernel
def tX1_sort : List (List am_En) := [tX1_sort_0, tX1_sort_1]
def mX1_sort : am_MR := (yX1_sort, cX1_sort, 1, (some .int), 1, 1, (0, 0), tX1_sort)
theorem kX1_sort : am_chk cX1_sort tX1_sort = true := am_chk_c kX1_sort_0 (am_chk_c kX1_sort_1 (rfl))
def tX1_hasColumn_0 : List am_En := [(0, .iload_n 2, 1, []), (1, .ifCond .lt 17, 4, [18]), (4, .iload_n 2, 5, []), (5, .aload_n 0, 6, []), (6, .getfield 32, 9, []), (9, .iload_n 1, 10, []), (10, .baload, 11, []), (11, .if_icmp .ge 7, 14, [18]), (14, .iconst 1, 15, []), (15, .goto 4, 18, [19])]
theorem kX1_hasColumn_0 : tX1_hasColumn_0.all (am_okE cX1_hasColumn) = true := by decide +kernel
def tX1_hasColumn_1 : List am_En := [(18, .iconst 0, 19, []), (19, .ireturn, 20, [])]
theorem kX1_hasColumn_1 : tX1_hasColumn_1.all (am_okE cX1_hasColumn) = true := by decide +kernel
def tX1_hasColumn : List (List am_En) := [tX1_hasColumn_0, tX1_hasColumn_1]
def mX1_hasColumn : am_MR := (yX1_hasColumn, cX1_hasColumn, 3, (some .boolean), 1, 2, (0, 0), tX1_hasColumn)
theorem kX1_hasColumn : am_chk cX1_hasColumn tX1_hasColumn = true := am_chk_c kX1_hasColumn_0 (am_chk_c kX1_hasColumn_1 (rfl))
def tX1_fits_0 : List am_En := [(0, .aload_n 0, 1, []), (1, .getfield 35, 4, []), (4, .iload_n 2, 5, []), (5, .iaload, 6, []), (6, .sipush 255, 9, []), (9, .iand, 10, []), (10, .iconst 1, 11, []), (11, .aload_n 0, 12, []), (12, .getfield 32, 15, []), (15, .iload_n 1, 16, [])]
theorem kX1_fits_0 : tX1_fits_0.all (am_okE cX1_fits) = true := by decide +kernel
def tX1_fits_1 : List am_En := [(16, .baload, 17, []), (17, .ishl, 18, []), (18, .if_icmp .ge 7, 21, [25]), (21, .iconst 1, 22, []), (22, .goto 4, 25, [26]), (25, .iconst 0, 26, []), (26, .ireturn, 27, [])]
theorem kX1_fits_1 : tX1_fits_1.all (am_okE cX1_fits) = true := by decide +kernel
def tX1_fits : List (List am_En) := [tX1_fits_0, tX1_fits_1]
def mX1_fits : am_MR := (yX1_fits, cX1_fits, 3, (some .boolean), 1, 2, (0, 0), tX1_fits)
theorem kX1_fits : am_chk cX1_fits tX1_fits = true := am_chk_c kX1_fits_0 (am_chk_c kX1_fits_1 (rfl))
def tX1_cost_0 : List am_En := [(0, .iconst 0, 1, []), (1, .istore_n 2, 2, []), (2, .iload_n 2, 3, []), (3, .iload_n 1, 4, []), (4, .if_icmp .gt 52, 7, [56]), (7, .aload_n 0, 8, []), (8, .getfield 41, 11, []), (11, .iload_n 2, 12, []), (12, .aload_n 0, 13, []), (13, .getfield 9, 16, [])]
theorem kX1_cost_0 : tX1_cost_0.all (am_okE cX1_cost) = true := by decide +kernel
def tX1_cost_1 : List am_En := [(16, .iload_n 2, 17, []), (17, .baload, 18, []), (18, .bipush 11, 20, []), (20, .if_icmp .ge 7, 23, [27]), (23, .lconst 0, 24, []), (24, .goto 8, 27, [32]), (27, .aload_n 0, 28, []), (28, .iload_n 2, 29, []), (29, .invokevirtual 64, 32, [])]
theorem kX1_cost_1 : tX1_cost_1.all (am_okE cX1_cost) = true := by decide +kernel
def tX1_cost_2 : List am_En := [(32, .invokestatic 68, 35, []), (35, .iastore, 36, []), (36, .aload_n 0, 37, []), (37, .getfield 38, 40, []), (40, .iload_n 2, 41, []), (41, .aload_n 0, 42, []), (42, .iload_n 2, 43, []), (43, .invokevirtual 72, 46, []), (46, .invokestatic 68, 49, [])]
theorem kX1_cost_2 : tX1_cost_2.all (am_okE cX1_cost) = true := by decide +kernel
def tX1_cost_3 : List am_En := [(49, .iastore, 50, []), (50, .iinc 2 1, 53, []), (53, .goto (-51), 56, [2]), (56, .aload_n 0, 57, []), (57, .getfield 38, 60, []), (60, .iload_n 1, 61, []), (61, .iaload, 62, []), (62, .ireturn, 63, [])]
theorem kX1_cost_3 : tX1_cost_3.all (am_okE cX1_cost) = true := by decide +kernel
def tX1_cost : List (List am_En) := [tX1_cost_0, tX1_cost_1, tX1_cost_2, tX1_cost_3]
def mX1_cost : am_MR := (yX1_cost, cX1_cost, 3, (some .int), 1, 1, (0, 0), tX1_cost)
theorem kX1_cost : am_chk cX1_cost tX1_cost = true := am_chk_c kX1_cost_0 (am_chk_c kX1_cost_1 (am_chk_c kX1_cost_2 (am_chk_c kX1_cost_3 (rfl))))
def tX1_ownSize_0 : List am_En := [(0, .aload_n 0, 1, []), (1, .getfield 9, 4, []), (4, .iload_n 1, 5, []), (5, .baload, 6, []), (6, .bipush 11, 8, []), (8, .if_icmp .ne 19, 11, [27]), (11, .aload_n 0, 12, []), (12, .getfield 44, 15, []), (15, .aload_n 0, 16, [])]
theorem kX1_ownSize_0 : tX1_ownSize_0.all (am_okE cX1_ownSize) = true := by decide +kernel
def tX1_ownSize_1 : List am_En := [(16, .getfield 25, 19, []), (19, .iload_n 1, 20, []), (20, .iaload, 21, []), (21, .aaload, 22, []), (22, .getfield 81, 25, []), (25, .i2l, 26, []), (26, .lreturn, 27, []), (27, .aload_n 0, 28, []), (28, .getfield 41, 31, []), (31, .aload_n 0, 32, [])]
theorem kX1_ownSize_1 : tX1_ownSize_1.all (am_okE cX1_ownSize) = true := by decide +kernel
def tX1_ownSize_2 : List am_En := [(32, .getfield 18, 35, []), (35, .iload_n 1, 36, []), (36, .saload, 37, []), (37, .iaload, 38, []), (38, .i2l, 39, []), (39, .lstore_n 2, 40, []), (40, .aload_n 0, 41, []), (41, .getfield 22, 44, []), (44, .iload_n 1, 45, []), (45, .saload, 46, []), (46, .ifCond .ge 7, 49, [53])]
theorem kX1_ownSize_2 : tX1_ownSize_2.all (am_okE cX1_ownSize) = true := by decide +kernel
def tX1_ownSize_3 : List am_En := [(49, .lconst 0, 50, []), (50, .goto 15, 53, [65]), (53, .aload_n 0, 54, []), (54, .getfield 41, 57, []), (57, .aload_n 0, 58, []), (58, .getfield 22, 61, []), (61, .iload_n 1, 62, []), (62, .saload, 63, []), (63, .iaload, 64, [])]
theorem kX1_ownSize_3 : tX1_ownSize_3.all (am_okE cX1_ownSize) = true := by decide +kernel
def tX1_ownSize_4 : List am_En := [(64, .i2l, 65, []), (65, .lstore 4, 67, []), (67, .aload_n 0, 68, []), (68, .getfield 9, 71, []), (71, .iload_n 1, 72, []), (72, .baload, 73, []), (73, .tableswitch 119 15 20 #[39, 44, 83, 119, 101, 113], 112, [192, 112, 117, 156, 192, 174, 186])]
theorem kX1_ownSize_4 : tX1_ownSize_4.all (am_okE cX1_ownSize) = true := by decide +kernel
def tX1_ownSize_5 : List am_En := []
theorem kX1_ownSize_5 : tX1_ownSize_5.all (am_okE cX1_ownSize) = true := by decide +kernel
def tX1_ownSize_6 : List am_En := []
theorem kX1_ownSize_6 : tX1_ownSize_6.all (am_okE cX1_ownSize) = true := by decide +kernel
def tX1_ownSize_7 : List am_En := [(112, .lload_n 2, 113, []), (113, .lload 4, 115, []), (115, .lmul, 116, []), (116, .lreturn, 117, []), (117, .aload_n 0, 118, []), (118, .getfield 15, 121, []), (121, .iload_n 1, 122, []), (122, .baload, 123, []), (123, .ifCond .ne 10, 126, [133]), (126, .lload_n 2, 127, []), (127, .lload 4, 129, [])]
theorem kX1_ownSize_7 : tX1_ownSize_7.all (am_okE cX1_ownSize) = true := by decide +kernel
def tX1_ownSize_8 : List am_En := [(129, .lmul, 130, []), (130, .goto 25, 133, [155]), (133, .aload_n 0, 134, []), (134, .getfield 15, 137, []), (137, .iload_n 1, 138, []), (138, .baload, 139, []), (139, .iconst 1, 140, []), (140, .if_icmp .ne 14, 143, [154]), (143, .lload_n 2, 144, [])]
theorem kX1_ownSize_8 : tX1_ownSize_8.all (am_okE cX1_ownSize) = true := by decide +kernel
def tX1_ownSize_9 : List am_En := [(144, .lconst 1, 145, []), (145, .lload 4, 147, []), (147, .invokestatic 86, 150, []), (150, .lmul, 151, []), (151, .goto 4, 154, [155]), (154, .lload_n 2, 155, []), (155, .lreturn, 156, []), (156, .aload_n 0, 157, []), (157, .getfield 15, 160, [])]
theorem kX1_ownSize_9 : tX1_ownSize_9.all (am_okE cX1_ownSize) = true := by decide +kernel
def tX1_ownSize_10 : List am_En := [(160, .iload_n 1, 161, []), (161, .baload, 162, []), (162, .ifCond .ne 10, 165, [172]), (165, .lload_n 2, 166, []), (166, .lload 4, 168, []), (168, .ladd, 169, []), (169, .goto 4, 172, [173]), (172, .lload_n 2, 173, []), (173, .lreturn, 174, []), (174, .lload_n 2, 175, []), (175, .aload_n 0, 176, [])]
theorem kX1_ownSize_10 : tX1_ownSize_10.all (am_okE cX1_ownSize) = true := by decide +kernel
def tX1_ownSize_11 : List am_En := [(176, .getfield 25, 179, []), (179, .iload_n 1, 180, []), (180, .iaload, 181, []), (181, .i2l, 182, []), (182, .invokestatic 92, 185, []), (185, .lreturn, 186, []), (186, .lconst 1, 187, []), (187, .lload_n 2, 188, []), (188, .invokestatic 86, 191, []), (191, .lreturn, 192, [])]
theorem kX1_ownSize_11 : tX1_ownSize_11.all (am_okE cX1_ownSize) = true := by decide +kernel
def tX1_ownSize_12 : List am_En := [(192, .lload_n 2, 193, []), (193, .lreturn, 194, [])]
theorem kX1_ownSize_12 : tX1_ownSize_12.all (am_okE cX1_ownSize) = true := by decide +kernel
def tX1_ownSize : List (List am_En) := [tX1_ownSize_0, tX1_ownSize_1, tX1_ownSize_2, tX1_ownSize_3, tX1_ownSize_4, tX1_ownSize_5, tX1_ownSize_6, tX1_ownSize_7, tX1_ownSize_8, tX1_ownSize_9, tX1_ownSize_10, tX1_ownSize_11, tX1_ownSize_12]
def mX1_ownSize : am_MR := (yX1_ownSize, cX1_ownSize, 6, (some .long), 1, 1, (0, 0), tX1_ownSize)
theorem kX1_ownSize : am_chk cX1_ownSize tX1_ownSize = true := am_chk_c kX1_ownSize_0 (am_chk_c kX1_ownSize_1 (am_chk_c kX1_ownSize_2 (am_chk_c kX1_ownSize_3 (am_chk_c kX1_ownSize_4 (am_chk_c kX1_ownSize_5 (am_chk_c kX1_ownSize_6 (am_chk_c kX1_ownSize_7 (am_chk_c kX1_ownSize_8 (am_chk_c kX1_ownSize_9 (am_chk_c kX1_ownSize_10 (am_chk_c kX1_ownSize_11 (am_chk_c kX1_ownSize_12 (rfl)))))))))))))
def tX1_cut_0 : List am_En := [(0, .lload_n 0, 1, []), (1, .ldc2_w 78, 4, []), (4, .lcmp, 5, []), (5, .ifCond .le 8, 8, [13]), (8, .ldc 80, 10, []), (10, .goto 5, 13, [15]), (13, .lload_n 0, 14, []), (14, .l2i, 15, []), (15, .ireturn, 16, [])]
theorem kX1_cut_0 : tX1_cut_0.all (am_okE cX1_cut) = true := by decide +kernel
def tX1_cut : List (List am_En) := [tX1_cut_0]
def mX1_cut : am_MR := (yX1_cut, cX1_cut, 2, (some .int), 1, 1, (0, 0), tX1_cut)
theorem kX1_cut : am_chk cX1_cut tX1_cut = true := am_chk_c kX1_cut_0 (rfl)
def tX1_ownCost_0 : List am_En := [(0, .aload_n 0, 1, []), (1, .getfield 9, 4, []), (4, .iload_n 1, 5, []), (5, .baload, 6, []), (6, .ifCond .eq 13, 9, [19]), (9, .aload_n 0, 10, []), (10, .getfield 9, 13, []), (13, .iload_n 1, 14, []), (14, .baload, 15, []), (15, .iconst 1, 16, [])]
theorem kX1_ownCost_0 : tX1_ownCost_0.all (am_okE cX1_ownCost) = true := by decide +kernel
def tX1_ownCost_1 : List am_En := [(16, .if_icmp .ne 5, 19, [21]), (19, .lconst 1, 20, []), (20, .lreturn, 21, []), (21, .aload_n 0, 22, []), (22, .getfield 9, 25, []), (25, .iload_n 1, 26, []), (26, .baload, 27, []), (27, .bipush 11, 29, []), (29, .if_icmp .ne 13, 32, [42])]
theorem kX1_ownCost_1 : tX1_ownCost_1.all (am_okE cX1_ownCost) = true := by decide +kernel
def tX1_ownCost_2 : List am_En := [(32, .aload_n 0, 33, []), (33, .getfield 41, 36, []), (36, .iload_n 1, 37, []), (37, .iaload, 38, []), (38, .i2l, 39, []), (39, .lconst 1, 40, []), (40, .ladd, 41, []), (41, .lreturn, 42, []), (42, .aload_n 0, 43, []), (43, .getfield 38, 46, []), (46, .aload_n 0, 47, []), (47, .getfield 18, 50, [])]
theorem kX1_ownCost_2 : tX1_ownCost_2.all (am_okE cX1_ownCost) = true := by decide +kernel
def tX1_ownCost_3 : List am_En := [(50, .iload_n 1, 51, []), (51, .saload, 52, []), (52, .iaload, 53, []), (53, .i2l, 54, []), (54, .lstore_n 2, 55, []), (55, .aload_n 0, 56, []), (56, .getfield 22, 59, []), (59, .iload_n 1, 60, []), (60, .saload, 61, []), (61, .ifCond .ge 7, 64, [68])]
theorem kX1_ownCost_3 : tX1_ownCost_3.all (am_okE cX1_ownCost) = true := by decide +kernel
def tX1_ownCost_4 : List am_En := [(64, .lconst 0, 65, []), (65, .goto 15, 68, [80]), (68, .aload_n 0, 69, []), (69, .getfield 38, 72, []), (72, .aload_n 0, 73, []), (73, .getfield 22, 76, []), (76, .iload_n 1, 77, []), (77, .saload, 78, []), (78, .iaload, 79, []), (79, .i2l, 80, [])]
theorem kX1_ownCost_4 : tX1_ownCost_4.all (am_okE cX1_ownCost) = true := by decide +kernel
def tX1_ownCost_5 : List am_En := [(80, .lstore 4, 82, []), (82, .lconst 1, 83, []), (83, .lload_n 2, 84, []), (84, .ladd, 85, []), (85, .aload_n 0, 86, []), (86, .getfield 9, 89, []), (89, .iload_n 1, 90, []), (90, .baload, 91, []), (91, .invokestatic 60, 94, []), (94, .ifCond .eq 23, 97, [117])]
theorem kX1_ownCost_5 : tX1_ownCost_5.all (am_okE cX1_ownCost) = true := by decide +kernel
def tX1_ownCost_6 : List am_En := [(97, .aload_n 0, 98, []), (98, .getfield 41, 101, []), (101, .aload_n 0, 102, []), (102, .getfield 18, 105, []), (105, .iload_n 1, 106, []), (106, .saload, 107, []), (107, .iaload, 108, []), (108, .i2l, 109, []), (109, .lconst 1, 110, []), (110, .ladd, 111, []), (111, .lload 4, 113, [])]
theorem kX1_ownCost_6 : tX1_ownCost_6.all (am_okE cX1_ownCost) = true := by decide +kernel
def tX1_ownCost_7 : List am_En := [(113, .lmul, 114, []), (114, .goto 29, 117, [143]), (117, .aload_n 0, 118, []), (118, .getfield 9, 121, []), (121, .iload_n 1, 122, []), (122, .baload, 123, []), (123, .bipush 15, 125, []), (125, .if_icmp .ne 16, 128, [141])]
theorem kX1_ownCost_7 : tX1_ownCost_7.all (am_okE cX1_ownCost) = true := by decide +kernel
def tX1_ownCost_8 : List am_En := [(128, .lload 4, 130, []), (130, .aload_n 0, 131, []), (131, .getfield 41, 134, []), (134, .iload_n 1, 135, []), (135, .iaload, 136, []), (136, .i2l, 137, []), (137, .ladd, 138, []), (138, .goto 5, 141, [143]), (141, .lload 4, 143, []), (143, .ladd, 144, [])]
theorem kX1_ownCost_8 : tX1_ownCost_8.all (am_okE cX1_ownCost) = true := by decide +kernel
def tX1_ownCost_9 : List am_En := [(144, .lreturn, 145, [])]
theorem kX1_ownCost_9 : tX1_ownCost_9.all (am_okE cX1_ownCost) = true := by decide +kernel
def tX1_ownCost : List (List am_En) := [tX1_ownCost_0, tX1_ownCost_1, tX1_ownCost_2, tX1_ownCost_3, tX1_ownCost_4, tX1_ownCost_5, tX1_ownCost_6, tX1_ownCost_7, tX1_ownCost_8, tX1_ownCost_9]
def mX1_ownCost : am_MR := (yX1_ownCost, cX1_ownCost, 6, (some .long), 1, 1, (0, 0), tX1_ownCost)
theorem kX1_ownCost : am_chk cX1_ownCost tX1_ownCost = true := am_chk_c kX1_ownCost_0 (am_chk_c kX1_ownCost_1 (am_chk_c kX1_ownCost_2 (am_chk_c kX1_ownCost_3 (am_chk_c kX1_ownCost_4 (am_chk_c kX1_ownCost_5 (am_chk_c kX1_ownCost_6 (am_chk_c kX1_ownCost_7 (am_chk_c kX1_ownCost_8 (am_chk_c kX1_ownCost_9 (rfl))))))))))
def tX1_size_0 : List am_En := [(0, .aload_n 0, 1, []), (1, .iload_n 1, 2, []), (2, .invokevirtual 75, 5, []), (5, .pop, 6, []), (6, .aload_n 0, 7, []), (7, .getfield 41, 10, []), (10, .iload_n 1, 11, []), (11, .iaload, 12, []), (12, .ireturn, 13, [])]
theorem kX1_size_0 : tX1_size_0.all (am_okE cX1_size) = true := by decide +kernel
def tX1_size : List (List am_En) := [tX1_size_0]
def mX1_size : am_MR := (yX1_size, cX1_size, 2, (some .int), 1, 1, (0, 0), tX1_size)
theorem kX1_size : am_chk cX1_size tX1_size = true := am_chk_c kX1_size_0 (rfl)
def tX1_isBag_0 : List am_En := [(0, .aload_n 0, 1, []), (1, .iload_n 1, 2, []), (2, .iconst 2, 3, []), (3, .invokevirtual 56, 6, []), (6, .ireturn, 7, [])]
theorem kX1_isBag_0 : tX1_isBag_0.all (am_okE cX1_isBag) = true := by decide +kernel
def tX1_isBag : List (List am_En) := [tX1_isBag_0]
def mX1_isBag : am_MR := (yX1_isBag, cX1_isBag, 2, (some .boolean), 1, 1, (0, 0), tX1_isBag)
theorem kX1_isBag : am_chk cX1_isBag tX1_isBag = true := am_chk_c kX1_isBag_0 (rfl)
def tX2_init_0 : List am_En := [(0, .aload_n 0, 1, []), (1, .invokespecial 3, 4, []), (4, .aload_n 0, 5, []), (5, .ldc 11, 7, []), (7, .newarray .byte, 9, []), (9, .putfield 12, 12, []), (12, .aload_n 0, 13, []), (13, .ldc 11, 15, []), (15, .newarray .int, 17, [])]
theorem kX2_init_0 : tX2_init_0.all (am_okE cX2_init) = true := by decide +kernel
def tX2_init_1 : List am_En := [(17, .putfield 16, 20, []), (20, .aload_n 0, 21, []), (21, .ldc 11, 23, []), (23, .newarray .int, 25, []), (25, .putfield 20, 28, []), (28, .aload_n 0, 29, []), (29, .ldc 11, 31, []), (31, .newarray .int, 33, [])]
theorem kX2_init_1 : tX2_init_1.all (am_okE cX2_init) = true := by decide +kernel
def tX2_init_2 : List am_En := [(33, .putfield 23, 36, []), (36, .aload_n 0, 37, []), (37, .ldc 11, 39, []), (39, .newarray .int, 41, []), (41, .putfield 26, 44, []), (44, .aload_n 0, 45, []), (45, .ldc 11, 47, []), (47, .newarray .int, 49, [])]
theorem kX2_init_2 : tX2_init_2.all (am_okE cX2_init) = true := by decide +kernel
def tX2_init_3 : List am_En := [(49, .putfield 29, 52, []), (52, .aload_n 0, 53, []), (53, .ldc 11, 55, []), (55, .newarray .int, 57, []), (57, .putfield 32, 60, []), (60, .aload_n 0, 61, []), (61, .ldc 35, 63, []), (63, .newarray .int, 65, [])]
theorem kX2_init_3 : tX2_init_3.all (am_okE cX2_init) = true := by decide +kernel
def tX2_init_4 : List am_En := [(65, .putfield 36, 68, []), (68, .return_, 69, [])]
theorem kX2_init_4 : tX2_init_4.all (am_okE cX2_init) = true := by decide +kernel
def tX2_init : List (List am_En) := [tX2_init_0, tX2_init_1, tX2_init_2, tX2_init_3, tX2_init_4]
def mX2_init : am_MR := (yX2_init, cX2_init, 1, none, 2, 0, (8, 753664), tX2_init)
theorem kX2_init : am_chk cX2_init tX2_init = true := am_chk_c kX2_init_0 (am_chk_c kX2_init_1 (am_chk_c kX2_init_2 (am_chk_c kX2_init_3 (am_chk_c kX2_init_4 (rfl)))))
def tX2_clear_0 : List am_En := [(0, .aload_n 0, 1, []), (1, .iconst 0, 2, []), (2, .putfield 39, 5, []), (5, .aload_n 0, 6, []), (6, .iconst 0, 7, []), (7, .putfield 43, 10, []), (10, .return_, 11, [])]
theorem kX2_clear_0 : tX2_clear_0.all (am_okE cX2_clear) = true := by decide +kernel
def tX2_clear : List (List am_En) := [tX2_clear_0]
def mX2_clear : am_MR := (yX2_clear, cX2_clear, 1, none, 2, 0, (0, 0), tX2_clear)
theorem kX2_clear : am_chk cX2_clear tX2_clear = true := am_chk_c kX2_clear_0 (rfl)
def tX2_unit_0 : List am_En := [(0, .aload_n 0, 1, []), (1, .iconst 0, 2, []), (2, .iconst (-1), 3, []), (3, .iconst (-1), 4, []), (4, .iconst 0, 5, []), (5, .iconst 0, 6, []), (6, .iconst 0, 7, []), (7, .iconst 0, 8, []), (8, .invokevirtual 50, 11, []), (11, .ireturn, 12, [])]
theorem kX2_unit_0 : tX2_unit_0.all (am_okE cX2_unit) = true := by decide +kernel
def tX2_unit : List (List am_En) := [tX2_unit_0]
def mX2_unit : am_MR := (yX2_unit, cX2_unit, 1, (some .int), 2, 0, (0, 0), tX2_unit)
theorem kX2_unit : am_chk cX2_unit tX2_unit = true := am_chk_c kX2_unit_0 (rfl)
def tX2_add_0 : List am_En := [(0, .aload_n 0, 1, []), (1, .dup, 2, []), (2, .getfield 39, 5, []), (5, .dup_x1, 6, []), (6, .iconst 1, 7, []), (7, .iadd, 8, []), (8, .putfield 39, 11, []), (11, .istore 8, 13, []), (13, .aload_n 0, 14, []), (14, .getfield 12, 17, [])]
theorem kX2_add_0 : tX2_add_0.all (am_okE cX2_add) = true := by decide +kernel
def tX2_add_1 : List am_En := [(17, .iload 8, 19, []), (19, .iload_n 1, 20, []), (20, .i2b, 21, []), (21, .bastore, 22, []), (22, .aload_n 0, 23, []), (23, .getfield 16, 26, []), (26, .iload 8, 28, []), (28, .iload_n 2, 29, []), (29, .iastore, 30, []), (30, .aload_n 0, 31, []), (31, .getfield 20, 34, [])]
theorem kX2_add_1 : tX2_add_1.all (am_okE cX2_add) = true := by decide +kernel
def tX2_add_2 : List am_En := [(34, .iload 8, 36, []), (36, .iload_n 3, 37, []), (37, .iastore, 38, []), (38, .aload_n 0, 39, []), (39, .getfield 23, 42, []), (42, .iload 8, 44, []), (44, .iload 4, 46, []), (46, .iastore, 47, []), (47, .aload_n 0, 48, [])]
theorem kX2_add_2 : tX2_add_2.all (am_okE cX2_add) = true := by decide +kernel
def tX2_add_3 : List am_En := [(48, .getfield 26, 51, []), (51, .iload 8, 53, []), (53, .iload 5, 55, []), (55, .iastore, 56, []), (56, .aload_n 0, 57, []), (57, .getfield 29, 60, []), (60, .iload 8, 62, []), (62, .iload 6, 64, [])]
theorem kX2_add_3 : tX2_add_3.all (am_okE cX2_add) = true := by decide +kernel
def tX2_add_4 : List am_En := [(64, .iastore, 65, []), (65, .aload_n 0, 66, []), (66, .getfield 32, 69, []), (69, .iload 8, 71, []), (71, .iload 7, 73, []), (73, .iastore, 74, []), (74, .iload 8, 76, []), (76, .ireturn, 77, [])]
theorem kX2_add_4 : tX2_add_4.all (am_okE cX2_add) = true := by decide +kernel
def tX2_add : List (List am_En) := [tX2_add_0, tX2_add_1, tX2_add_2, tX2_add_3, tX2_add_4]
def mX2_add : am_MR := (yX2_add, cX2_add, 9, (some .int), 2, 7, (0, 0), tX2_add)
theorem kX2_add : am_chk cX2_add tX2_add = true := am_chk_c kX2_add_0 (am_chk_c kX2_add_1 (am_chk_c kX2_add_2 (am_chk_c kX2_add_3 (am_chk_c kX2_add_4 (rfl)))))
def tX2_cross_0 : List am_En := [(0, .aload_n 0, 1, []), (1, .iconst 2, 2, []), (2, .iload_n 1, 3, []), (3, .iload_n 2, 4, []), (4, .iconst 0, 5, []), (5, .iconst 0, 6, []), (6, .iconst 0, 7, []), (7, .iconst 0, 8, []), (8, .invokevirtual 50, 11, []), (11, .ireturn, 12, [])]
theorem kX2_cross_0 : tX2_cross_0.all (am_okE cX2_cross) = true := by decide +kernel
def tX2_cross : List (List am_En) := [tX2_cross_0]
def mX2_cross : am_MR := (yX2_cross, cX2_cross, 3, (some .int), 2, 2, (0, 0), tX2_cross)
theorem kX2_cross : am_chk cX2_cross tX2_cross = true := am_chk_c kX2_cross_0 (rfl)
def tX2_laid_0 : List am_En := [(0, .aload_n 0, 1, []), (1, .iconst 1, 2, []), (2, .iconst (-1), 3, []), (3, .iconst (-1), 4, []), (4, .iconst 0, 5, []), (5, .iconst 0, 6, []), (6, .iload_n 1, 7, []), (7, .iconst 0, 8, []), (8, .invokevirtual 50, 11, []), (11, .ireturn, 12, [])]
theorem kX2_laid_0 : tX2_laid_0.all (am_okE cX2_laid) = true := by decide +kernel
def tX2_laid : List (List am_En) := [tX2_laid_0]
def mX2_laid : am_MR := (yX2_laid, cX2_laid, 2, (some .int), 2, 1, (0, 0), tX2_laid)
theorem kX2_laid : am_chk cX2_laid tX2_laid = true := am_chk_c kX2_laid_0 (rfl)
def tX2_put_0 : List am_En := [(0, .aload_n 0, 1, []), (1, .getfield 36, 4, []), (4, .aload_n 0, 5, []), (5, .dup, 6, []), (6, .getfield 43, 9, []), (9, .dup_x1, 10, []), (10, .iconst 1, 11, []), (11, .iadd, 12, []), (12, .putfield 43, 15, []), (15, .iload_n 1, 16, [])]
theorem kX2_put_0 : tX2_put_0.all (am_okE cX2_put) = true := by decide +kernel
def tX2_put_1 : List am_En := [(16, .iastore, 17, []), (17, .return_, 18, [])]
theorem kX2_put_1 : tX2_put_1.all (am_okE cX2_put) = true := by decide +kernel
def tX2_put : List (List am_En) := [tX2_put_0, tX2_put_1]
def mX2_put : am_MR := (yX2_put, cX2_put, 2, none, 2, 1, (0, 0), tX2_put)
theorem kX2_put : am_chk cX2_put tX2_put = true := am_chk_c kX2_put_0 (am_chk_c kX2_put_1 (rfl))
def tX2_pick_0 : List am_En := [(0, .aload_n 0, 1, []), (1, .iconst 5, 2, []), (2, .iload_n 1, 3, []), (3, .iconst (-1), 4, []), (4, .iload_n 2, 5, []), (5, .iload_n 3, 6, []), (6, .iconst 0, 7, []), (7, .iconst 0, 8, []), (8, .invokevirtual 50, 11, []), (11, .ireturn, 12, [])]
theorem kX2_pick_0 : tX2_pick_0.all (am_okE cX2_pick) = true := by decide +kernel
def tX2_pick : List (List am_En) := [tX2_pick_0]
def mX2_pick : am_MR := (yX2_pick, cX2_pick, 4, (some .int), 2, 3, (0, 0), tX2_pick)
theorem kX2_pick : am_chk cX2_pick tX2_pick = true := am_chk_c kX2_pick_0 (rfl)
def tX2_unique_0 : List am_En := [(0, .aload_n 0, 1, []), (1, .bipush 10, 3, []), (3, .iload_n 1, 4, []), (4, .iconst (-1), 5, []), (5, .iconst 0, 6, []), (6, .iconst 0, 7, []), (7, .iconst 0, 8, []), (8, .iconst 0, 9, []), (9, .invokevirtual 50, 12, []), (12, .ireturn, 13, [])]
theorem kX2_unique_0 : tX2_unique_0.all (am_okE cX2_unique) = true := by decide +kernel
def tX2_unique : List (List am_En) := [tX2_unique_0]
def mX2_unique : am_MR := (yX2_unique, cX2_unique, 2, (some .int), 2, 1, (0, 0), tX2_unique)
theorem kX2_unique : am_chk cX2_unique tX2_unique = true := am_chk_c kX2_unique_0 (rfl)
def tX2_span_0 : List am_En := [(0, .aload_n 0, 1, []), (1, .getfield 43, 4, []), (4, .istore_n 3, 5, []), (5, .iload_n 1, 6, []), (6, .istore 4, 8, []), (8, .iload 4, 10, []), (10, .iload_n 2, 11, []), (11, .if_icmp .ge 15, 14, [26]), (14, .aload_n 0, 15, []), (15, .iload 4, 17, [])]
theorem kX2_span_0 : tX2_span_0.all (am_okE cX2_span) = true := by decide +kernel
def tX2_span_1 : List am_En := [(17, .invokevirtual 46, 20, []), (20, .iinc 4 1, 23, []), (23, .goto (-15), 26, [8]), (26, .iload_n 3, 27, []), (27, .ireturn, 28, [])]
theorem kX2_span_1 : tX2_span_1.all (am_okE cX2_span) = true := by decide +kernel
def tX2_span : List (List am_En) := [tX2_span_0, tX2_span_1]
def mX2_span : am_MR := (yX2_span, cX2_span, 5, (some .int), 2, 2, (0, 0), tX2_span)
theorem kX2_span : am_chk cX2_span tX2_span = true := am_chk_c kX2_span_0 (am_chk_c kX2_span_1 (rfl))
def tX2_gather_0 : List am_En := [(0, .aload_n 0, 1, []), (1, .bipush 11, 3, []), (3, .iload_n 1, 4, []), (4, .iconst (-1), 5, []), (5, .iload_n 2, 6, []), (6, .iload_n 3, 7, []), (7, .iload 4, 9, []), (9, .iload 5, 11, []), (11, .invokevirtual 50, 14, []), (14, .ireturn, 15, [])]
theorem kX2_gather_0 : tX2_gather_0.all (am_okE cX2_gather) = true := by decide +kernel
def tX2_gather : List (List am_En) := [tX2_gather_0]
def mX2_gather : am_MR := (yX2_gather, cX2_gather, 6, (some .int), 2, 5, (0, 0), tX2_gather)
theorem kX2_gather : am_chk cX2_gather tX2_gather = true := am_chk_c kX2_gather_0 (rfl)
def tX2_join_0 : List am_En := [(0, .aload_n 0, 1, []), (1, .bipush 6, 3, []), (3, .iload_n 2, 4, []), (4, .iload_n 3, 5, []), (5, .iload 4, 7, []), (7, .iload 5, 9, []), (9, .iload_n 1, 10, []), (10, .iload 6, 12, []), (12, .invokevirtual 50, 15, []), (15, .ireturn, 16, [])]
theorem kX2_join_0 : tX2_join_0.all (am_okE cX2_join) = true := by decide +kernel
def tX2_join : List (List am_En) := [tX2_join_0]
def mX2_join : am_MR := (yX2_join, cX2_join, 7, (some .int), 2, 6, (0, 0), tX2_join)
theorem kX2_join : am_chk cX2_join tX2_join = true := am_chk_c kX2_join_0 (rfl)
def tX2_pickFirst_0 : List am_En := [(0, .aload_n 0, 1, []), (1, .iconst 0, 2, []), (2, .iload_n 2, 3, []), (3, .invokevirtual 54, 6, []), (6, .istore_n 3, 7, []), (7, .aload_n 0, 8, []), (8, .iload_n 1, 9, []), (9, .iload_n 3, 10, []), (10, .iload_n 2, 11, []), (11, .invokevirtual 58, 14, []), (14, .ireturn, 15, [])]
theorem kX2_pickFirst_0 : tX2_pickFirst_0.all (am_okE cX2_pickFirst) = true := by decide +kernel
def tX2_pickFirst : List (List am_En) := [tX2_pickFirst_0]
def mX2_pickFirst : am_MR := (yX2_pickFirst, cX2_pickFirst, 4, (some .int), 2, 2, (0, 0), tX2_pickFirst)
theorem kX2_pickFirst : am_chk cX2_pickFirst tX2_pickFirst = true := am_chk_c kX2_pickFirst_0 (rfl)
def tX2_extend_0 : List am_En := [(0, .aload_n 0, 1, []), (1, .iconst 4, 2, []), (2, .iload_n 1, 3, []), (3, .iconst (-1), 4, []), (4, .iload_n 2, 5, []), (5, .aload_n 0, 6, []), (6, .getfield 43, 9, []), (9, .iload_n 2, 10, []), (10, .isub, 11, []), (11, .iconst 0, 12, []), (12, .iconst 0, 13, []), (13, .invokevirtual 50, 16, [])]
theorem kX2_extend_0 : tX2_extend_0.all (am_okE cX2_extend) = true := by decide +kernel
def tX2_extend_1 : List am_En := [(16, .ireturn, 17, [])]
theorem kX2_extend_1 : tX2_extend_1.all (am_okE cX2_extend) = true := by decide +kernel
def tX2_extend : List (List am_En) := [tX2_extend_0, tX2_extend_1]
def mX2_extend : am_MR := (yX2_extend, cX2_extend, 3, (some .int), 2, 2, (0, 0), tX2_extend)
theorem kX2_extend : am_chk cX2_extend tX2_extend = true := am_chk_c kX2_extend_0 (am_chk_c kX2_extend_1 (rfl))
def tX2_select_0 : List am_En := [(0, .aload_n 0, 1, []), (1, .iconst 3, 2, []), (2, .iload_n 1, 3, []), (3, .iconst (-1), 4, []), (4, .iload_n 2, 5, []), (5, .aload_n 0, 6, []), (6, .getfield 43, 9, []), (9, .iload_n 2, 10, []), (10, .isub, 11, []), (11, .iconst 0, 12, []), (12, .iconst 0, 13, []), (13, .invokevirtual 50, 16, [])]
theorem kX2_select_0 : tX2_select_0.all (am_okE cX2_select) = true := by decide +kernel
def tX2_select_1 : List am_En := [(16, .ireturn, 17, [])]
theorem kX2_select_1 : tX2_select_1.all (am_okE cX2_select) = true := by decide +kernel
def tX2_select : List (List am_En) := [tX2_select_0, tX2_select_1]
def mX2_select : am_MR := (yX2_select, cX2_select, 3, (some .int), 2, 2, (0, 0), tX2_select)
theorem kX2_select : am_chk cX2_select tX2_select = true := am_chk_c kX2_select_0 (am_chk_c kX2_select_1 (rfl))
def tX2_sets_0 : List am_En := [(0, .aload_n 0, 1, []), (1, .iload_n 1, 2, []), (2, .iload_n 2, 3, []), (3, .iload_n 3, 4, []), (4, .iconst 0, 5, []), (5, .iconst 0, 6, []), (6, .iconst 0, 7, []), (7, .iconst 0, 8, []), (8, .invokevirtual 50, 11, []), (11, .ireturn, 12, [])]
theorem kX2_sets_0 : tX2_sets_0.all (am_okE cX2_sets) = true := by decide +kernel
def tX2_sets : List (List am_En) := [tX2_sets_0]
def mX2_sets : am_MR := (yX2_sets, cX2_sets, 4, (some .int), 2, 3, (0, 0), tX2_sets)
theorem kX2_sets : am_chk cX2_sets tX2_sets = true := am_chk_c kX2_sets_0 (rfl)
def tX2_top_0 : List am_En := [(0, .aload_n 0, 1, []), (1, .bipush 12, 3, []), (3, .iload_n 1, 4, []), (4, .iconst (-1), 5, []), (5, .iconst 0, 6, []), (6, .iload_n 2, 7, []), (7, .iconst 0, 8, []), (8, .iload_n 3, 9, []), (9, .invokevirtual 50, 12, []), (12, .ireturn, 13, [])]
theorem kX2_top_0 : tX2_top_0.all (am_okE cX2_top) = true := by decide +kernel
def tX2_top : List (List am_En) := [tX2_top_0]
def mX2_top : am_MR := (yX2_top, cX2_top, 4, (some .int), 2, 3, (0, 0), tX2_top)
theorem kX2_top : am_chk cX2_top tX2_top = true := am_chk_c kX2_top_0 (rfl)
def tX3_init_0 : List am_En := [(0, .aload_n 0, 1, []), (1, .invokespecial 3, 4, []), (4, .aload_n 0, 5, []), (5, .new 9, 8, []), (8, .dup, 9, []), (9, .invokespecial 11, 12, []), (12, .putfield 12, 15, []), (15, .aload_n 0, 16, [])]
theorem kX3_init_0 : tX3_init_0.all (am_okE cX3_init) = true := by decide +kernel
def tX3_init_1 : List am_En := [(16, .sipush 300, 19, []), (19, .anewarray 9, 22, []), (22, .putfield 18, 25, []), (25, .aload_n 0, 26, []), (26, .sipush 3000, 29, []), (29, .newarray .int, 31, []), (31, .putfield 22, 34, [])]
theorem kX3_init_1 : tX3_init_1.all (am_okE cX3_init) = true := by decide +kernel
def tX3_init_2 : List am_En := [(34, .aload_n 0, 35, []), (35, .aload_n 1, 36, []), (36, .putfield 26, 39, []), (39, .aload_n 0, 40, []), (40, .aload_n 2, 41, []), (41, .putfield 30, 44, []), (44, .iconst 0, 45, []), (45, .istore_n 3, 46, []), (46, .iload_n 3, 47, []), (47, .sipush 300, 50, [])]
theorem kX3_init_2 : tX3_init_2.all (am_okE cX3_init) = true := by decide +kernel
def tX3_init_3 : List am_En := [(50, .if_icmp .ge 22, 53, [72]), (53, .aload_n 0, 54, []), (54, .getfield 18, 57, []), (57, .iload_n 3, 58, []), (58, .new 9, 61, []), (61, .dup, 62, []), (62, .invokespecial 11, 65, [])]
theorem kX3_init_3 : tX3_init_3.all (am_okE cX3_init) = true := by decide +kernel
def tX3_init_4 : List am_En := [(65, .aastore, 66, []), (66, .iinc 3 1, 69, []), (69, .goto (-23), 72, [46]), (72, .return_, 73, [])]
theorem kX3_init_4 : tX3_init_4.all (am_okE cX3_init) = true := by decide +kernel
def tX3_init : List (List am_En) := [tX3_init_0, tX3_init_1, tX3_init_2, tX3_init_3, tX3_init_4]
def mX3_init : am_MR := (yX3_init, cX3_init, 4, none, 3, 2, (604, 14136), tX3_init)
theorem kX3_init : am_chk cX3_init tX3_init = true := am_chk_c kX3_init_0 (am_chk_c kX3_init_1 (am_chk_c kX3_init_2 (am_chk_c kX3_init_3 (am_chk_c kX3_init_4 (rfl)))))
def tX3_whole_0 : List am_En := [(0, .aload_n 0, 1, []), (1, .getfield 30, 4, []), (4, .invokevirtual 34, 7, []), (7, .aload_n 0, 8, []), (8, .iconst 0, 9, []), (9, .putfield 39, 12, []), (12, .aload_n 0, 13, []), (13, .iconst 0, 14, []), (14, .putfield 43, 17, [])]
theorem kX3_whole_0 : tX3_whole_0.all (am_okE cX3_whole) = true := by decide +kernel
def tX3_whole_1 : List am_En := [(17, .aload_n 0, 18, []), (18, .getfield 12, 21, []), (21, .iconst 0, 22, []), (22, .putfield 46, 25, []), (25, .aload_n 0, 26, []), (26, .getfield 12, 29, []), (29, .aload_n 0, 30, []), (30, .getfield 30, 33, [])]
theorem kX3_whole_1 : tX3_whole_1.all (am_okE cX3_whole) = true := by decide +kernel
def tX3_whole_2 : List am_En := [(33, .invokevirtual 49, 36, []), (36, .putfield 52, 39, []), (39, .aload_n 0, 40, []), (40, .iload_n 1, 41, []), (41, .aload_n 0, 42, []), (42, .getfield 12, 45, []), (45, .invokevirtual 55, 48, [])]
theorem kX3_whole_2 : tX3_whole_2.all (am_okE cX3_whole) = true := by decide +kernel
def tX3_whole_3 : List am_En := [(48, .ireturn, 49, [])]
theorem kX3_whole_3 : tX3_whole_3.all (am_okE cX3_whole) = true := by decide +kernel
def tX3_whole : List (List am_En) := [tX3_whole_0, tX3_whole_1, tX3_whole_2, tX3_whole_3]
def mX3_whole : am_MR := (yX3_whole, cX3_whole, 2, (some .int), 3, 1, (0, 0), tX3_whole)
theorem kX3_whole : am_chk cX3_whole tX3_whole = true := am_chk_c kX3_whole_0 (am_chk_c kX3_whole_1 (am_chk_c kX3_whole_2 (am_chk_c kX3_whole_3 (rfl))))
def tX3_bag_0 : List am_En := [(0, .aload_n 0, 1, []), (1, .getfield 26, 4, []), (4, .getfield 59, 7, []), (7, .iload_n 1, 8, []), (8, .saload, 9, []), (9, .istore_n 3, 10, []), (10, .aload_n 0, 11, []), (11, .getfield 26, 14, []), (14, .getfield 65, 17, [])]
theorem kX3_bag_0 : tX3_bag_0.all (am_okE cX3_bag) = true := by decide +kernel
def tX3_bag_1 : List am_En := [(17, .iload_n 1, 18, []), (18, .saload, 19, []), (19, .istore 4, 21, []), (21, .aload_n 2, 22, []), (22, .aload_n 0, 23, []), (23, .getfield 12, 26, []), (26, .if_acmp .eq 36, 29, [62]), (29, .aload_n 0, 30, []), (30, .getfield 26, 33, [])]
theorem kX3_bag_1 : tX3_bag_1.all (am_okE cX3_bag) = true := by decide +kernel
def tX3_bag_2 : List am_En := [(33, .getfield 68, 36, []), (36, .iload_n 1, 37, []), (37, .iaload, 38, []), (38, .ifCond .ne 24, 41, [62]), (41, .aload_n 0, 42, []), (42, .getfield 30, 45, []), (45, .aload_n 2, 46, []), (46, .getfield 52, 49, [])]
theorem kX3_bag_2 : tX3_bag_2.all (am_okE cX3_bag) = true := by decide +kernel
def tX3_bag_3 : List am_En := [(49, .aload_n 0, 50, []), (50, .iload_n 1, 51, []), (51, .aload_n 0, 52, []), (52, .getfield 12, 55, []), (55, .invokevirtual 55, 58, []), (58, .invokevirtual 71, 61, []), (61, .ireturn, 62, []), (62, .aload_n 0, 63, []), (63, .getfield 26, 66, [])]
theorem kX3_bag_3 : tX3_bag_3.all (am_okE cX3_bag) = true := by decide +kernel
def tX3_bag_4 : List am_En := [(66, .getfield 75, 69, []), (69, .iload_n 1, 70, []), (70, .baload, 71, []), (71, .tableswitch 209 11 19 #[49, 77, 77, 87, 100, 109, 127, 168, 182], 120, [280, 120, 148, 148, 158, 171, 180, 198, 239, 253])]
theorem kX3_bag_4 : tX3_bag_4.all (am_okE cX3_bag) = true := by decide +kernel
def tX3_bag_5 : List am_En := []
theorem kX3_bag_5 : tX3_bag_5.all (am_okE cX3_bag) = true := by decide +kernel
def tX3_bag_6 : List am_En := []
theorem kX3_bag_6 : tX3_bag_6.all (am_okE cX3_bag) = true := by decide +kernel
def tX3_bag_7 : List am_En := [(120, .aload_n 0, 121, []), (121, .getfield 30, 124, []), (124, .aload_n 2, 125, []), (125, .getfield 52, 128, [])]
theorem kX3_bag_7 : tX3_bag_7.all (am_okE cX3_bag) = true := by decide +kernel
def tX3_bag_8 : List am_En := [(128, .aload_n 0, 129, []), (129, .getfield 30, 132, []), (132, .aload_n 0, 133, []), (133, .getfield 26, 136, []), (136, .getfield 79, 139, []), (139, .iload_n 1, 140, []), (140, .iaload, 141, []), (141, .invokevirtual 82, 144, [])]
theorem kX3_bag_8 : tX3_bag_8.all (am_okE cX3_bag) = true := by decide +kernel
def tX3_bag_9 : List am_En := [(144, .invokevirtual 71, 147, []), (147, .ireturn, 148, []), (148, .aload_n 0, 149, []), (149, .iload_n 1, 150, []), (150, .iload_n 3, 151, []), (151, .iload 4, 153, []), (153, .aload_n 2, 154, []), (154, .invokevirtual 86, 157, []), (157, .ireturn, 158, []), (158, .aload_n 0, 159, []), (159, .iload_n 1, 160, [])]
theorem kX3_bag_9 : tX3_bag_9.all (am_okE cX3_bag) = true := by decide +kernel
def tX3_bag_10 : List am_En := [(160, .aload_n 0, 161, []), (161, .iload_n 3, 162, []), (162, .aload_n 2, 163, []), (163, .invokevirtual 55, 166, []), (166, .aload_n 2, 167, []), (167, .invokevirtual 90, 170, []), (170, .ireturn, 171, []), (171, .aload_n 0, 172, []), (172, .iload_n 3, 173, []), (173, .iload 4, 175, []), (175, .aload_n 2, 176, [])]
theorem kX3_bag_10 : tX3_bag_10.all (am_okE cX3_bag) = true := by decide +kernel
def tX3_bag_11 : List am_En := [(176, .invokevirtual 94, 179, []), (179, .ireturn, 180, []), (180, .aload_n 0, 181, []), (181, .aload_n 0, 182, []), (182, .getfield 26, 185, []), (185, .getfield 97, 188, []), (188, .iload_n 1, 189, []), (189, .baload, 190, []), (190, .iload_n 3, 191, []), (191, .iload 4, 193, [])]
theorem kX3_bag_11 : tX3_bag_11.all (am_okE cX3_bag) = true := by decide +kernel
def tX3_bag_12 : List am_En := [(193, .aload_n 2, 194, []), (194, .invokevirtual 100, 197, []), (197, .ireturn, 198, []), (198, .aload_n 0, 199, []), (199, .iload_n 3, 200, []), (200, .aload_n 2, 201, []), (201, .invokevirtual 55, 204, []), (204, .istore 5, 206, []), (206, .aload_n 0, 207, []), (207, .iload 4, 209, [])]
theorem kX3_bag_12 : tX3_bag_12.all (am_okE cX3_bag) = true := by decide +kernel
def tX3_bag_13 : List am_En := [(209, .aload_n 2, 210, []), (210, .invokevirtual 55, 213, []), (213, .istore 6, 215, []), (215, .aload_n 0, 216, []), (216, .getfield 30, 219, []), (219, .bipush 7, 221, []), (221, .aload_n 0, 222, []), (222, .getfield 26, 225, [])]
theorem kX3_bag_13 : tX3_bag_13.all (am_okE cX3_bag) = true := by decide +kernel
def tX3_bag_14 : List am_En := [(225, .getfield 97, 228, []), (228, .iload_n 1, 229, []), (229, .baload, 230, []), (230, .iadd, 231, []), (231, .iload 5, 233, []), (233, .iload 6, 235, []), (235, .invokevirtual 103, 238, []), (238, .ireturn, 239, []), (239, .aload_n 0, 240, [])]
theorem kX3_bag_14 : tX3_bag_14.all (am_okE cX3_bag) = true := by decide +kernel
def tX3_bag_15 : List am_En := [(240, .getfield 30, 243, []), (243, .aload_n 0, 244, []), (244, .iload_n 3, 245, []), (245, .aload_n 2, 246, []), (246, .invokevirtual 55, 249, []), (249, .invokevirtual 107, 252, []), (252, .ireturn, 253, []), (253, .aload_n 0, 254, []), (254, .getfield 30, 257, [])]
theorem kX3_bag_15 : tX3_bag_15.all (am_okE cX3_bag) = true := by decide +kernel
def tX3_bag_16 : List am_En := [(257, .aload_n 0, 258, []), (258, .iload_n 3, 259, []), (259, .aload_n 2, 260, []), (260, .invokevirtual 55, 263, []), (263, .aload_n 2, 264, []), (264, .getfield 46, 267, []), (267, .aload_n 0, 268, []), (268, .getfield 26, 271, []), (271, .getfield 79, 274, [])]
theorem kX3_bag_16 : tX3_bag_16.all (am_okE cX3_bag) = true := by decide +kernel
def tX3_bag_17 : List am_En := [(274, .iload_n 1, 275, []), (275, .iaload, 276, []), (276, .invokevirtual 110, 279, []), (279, .ireturn, 280, []), (280, .aload_n 0, 281, []), (281, .iload_n 1, 282, []), (282, .aload_n 0, 283, []), (283, .iload_n 3, 284, []), (284, .aload_n 2, 285, []), (285, .invokevirtual 55, 288, [])]
theorem kX3_bag_17 : tX3_bag_17.all (am_okE cX3_bag) = true := by decide +kernel
def tX3_bag_18 : List am_En := [(288, .aload_n 2, 289, []), (289, .invokevirtual 113, 292, []), (292, .ireturn, 293, [])]
theorem kX3_bag_18 : tX3_bag_18.all (am_okE cX3_bag) = true := by decide +kernel
def tX3_bag : List (List am_En) := [tX3_bag_0, tX3_bag_1, tX3_bag_2, tX3_bag_3, tX3_bag_4, tX3_bag_5, tX3_bag_6, tX3_bag_7, tX3_bag_8, tX3_bag_9, tX3_bag_10, tX3_bag_11, tX3_bag_12, tX3_bag_13, tX3_bag_14, tX3_bag_15, tX3_bag_16, tX3_bag_17, tX3_bag_18]
def mX3_bag : am_MR := (yX3_bag, cX3_bag, 7, (some .int), 3, 2, (0, 0), tX3_bag)
theorem kX3_bag : am_chk cX3_bag tX3_bag = true := am_chk_c kX3_bag_0 (am_chk_c kX3_bag_1 (am_chk_c kX3_bag_2 (am_chk_c kX3_bag_3 (am_chk_c kX3_bag_4 (am_chk_c kX3_bag_5 (am_chk_c kX3_bag_6 (am_chk_c kX3_bag_7 (am_chk_c kX3_bag_8 (am_chk_c kX3_bag_9 (am_chk_c kX3_bag_10 (am_chk_c kX3_bag_11 (am_chk_c kX3_bag_12 (am_chk_c kX3_bag_13 (am_chk_c kX3_bag_14 (am_chk_c kX3_bag_15 (am_chk_c kX3_bag_16 (am_chk_c kX3_bag_17 (am_chk_c kX3_bag_18 (rfl)))))))))))))))))))
def tX3_within_0 : List am_En := [(0, .aload_n 0, 1, []), (1, .aload_n 0, 2, []), (2, .iload_n 2, 3, []), (3, .aload 4, 5, []), (5, .invokevirtual 55, 8, []), (8, .aload 4, 10, []), (10, .aload_n 0, 11, []), (11, .getfield 26, 14, []), (14, .getfield 156, 17, [])]
theorem kX3_within_0 : tX3_within_0.all (am_okE cX3_within) = true := by decide +kernel
def tX3_within_1 : List am_En := [(17, .iload_n 2, 18, []), (18, .baload, 19, []), (19, .invokevirtual 159, 22, []), (22, .astore 5, 24, []), (24, .aload 5, 26, []), (26, .getfield 46, 29, []), (29, .istore 6, 31, []), (31, .aload_n 0, 32, [])]
theorem kX3_within_1 : tX3_within_1.all (am_okE cX3_within) = true := by decide +kernel
def tX3_within_2 : List am_En := [(32, .getfield 43, 35, []), (35, .istore 7, 37, []), (37, .aload_n 0, 38, []), (38, .iload_n 3, 39, []), (39, .aload 5, 41, []), (41, .invokevirtual 167, 44, []), (44, .aload_n 0, 45, []), (45, .getfield 30, 48, [])]
theorem kX3_within_2 : tX3_within_2.all (am_okE cX3_within) = true := by decide +kernel
def tX3_within_3 : List am_En := [(48, .getfield 143, 51, []), (51, .istore 8, 53, []), (53, .aload_n 0, 54, []), (54, .iload 7, 56, []), (56, .putfield 171, 59, []), (59, .aload_n 0, 60, []), (60, .iload_n 3, 61, []), (61, .aload 5, 63, []), (63, .invokevirtual 174, 66, [])]
theorem kX3_within_3 : tX3_within_3.all (am_okE cX3_within) = true := by decide +kernel
def tX3_within_4 : List am_En := [(66, .aload_n 0, 67, []), (67, .iload 7, 69, []), (69, .putfield 43, 72, []), (72, .aload_n 0, 73, []), (73, .getfield 26, 76, []), (76, .getfield 75, 79, []), (79, .iload_n 1, 80, [])]
theorem kX3_within_4 : tX3_within_4.all (am_okE cX3_within) = true := by decide +kernel
def tX3_within_5 : List am_En := [(80, .baload, 81, []), (81, .bipush 12, 83, []), (83, .if_icmp .ne 7, 86, [90]), (86, .iconst 1, 87, []), (87, .goto 4, 90, [91]), (90, .iconst 0, 91, []), (91, .istore 9, 93, []), (93, .iload 9, 95, []), (95, .ifCond .eq 20, 98, [115])]
theorem kX3_within_5 : tX3_within_5.all (am_okE cX3_within) = true := by decide +kernel
def tX3_within_6 : List am_En := [(98, .aload_n 0, 99, []), (99, .getfield 30, 102, []), (102, .aload 5, 104, []), (104, .getfield 52, 107, []), (107, .iload 8, 109, []), (109, .invokevirtual 177, 112, [])]
theorem kX3_within_6 : tX3_within_6.all (am_okE cX3_within) = true := by decide +kernel
def tX3_within_7 : List am_En := [(112, .goto 17, 115, [129]), (115, .aload_n 0, 116, []), (116, .getfield 30, 119, []), (119, .aload 5, 121, []), (121, .getfield 52, 124, []), (124, .iload 8, 126, []), (126, .invokevirtual 180, 129, [])]
theorem kX3_within_7 : tX3_within_7.all (am_okE cX3_within) = true := by decide +kernel
def tX3_within_8 : List am_En := [(129, .istore 10, 131, []), (131, .aload 5, 133, []), (133, .getfield 46, 136, []), (136, .iload 6, 138, []), (138, .if_icmp .le 59, 141, [197]), (141, .aload_n 0, 142, []), (142, .getfield 30, 145, [])]
theorem kX3_within_8 : tX3_within_8.all (am_okE cX3_within) = true := by decide +kernel
def tX3_within_9 : List am_En := [(145, .iconst 0, 146, []), (146, .iload 6, 148, []), (148, .invokevirtual 116, 151, []), (151, .istore 11, 153, []), (153, .iload 9, 155, []), (155, .ifCond .ne 15, 158, [170]), (158, .aload_n 0, 159, []), (159, .getfield 30, 162, [])]
theorem kX3_within_9 : tX3_within_9.all (am_okE cX3_within) = true := by decide +kernel
def tX3_within_10 : List am_En := [(162, .aload 5, 164, []), (164, .getfield 46, 167, []), (167, .invokevirtual 122, 170, []), (170, .aload_n 0, 171, []), (171, .getfield 30, 174, []), (174, .iload 10, 176, [])]
theorem kX3_within_10 : tX3_within_10.all (am_okE cX3_within) = true := by decide +kernel
def tX3_within_11 : List am_En := [(176, .iload 11, 178, []), (178, .iload 9, 180, []), (180, .ifCond .eq 8, 183, [188]), (183, .iload 6, 185, []), (185, .goto 7, 188, [192]), (188, .iload 6, 190, []), (190, .iconst 1, 191, []), (191, .iadd, 192, [])]
theorem kX3_within_11 : tX3_within_11.all (am_okE cX3_within) = true := by decide +kernel
def tX3_within_12 : List am_En := [(192, .invokevirtual 126, 195, []), (195, .istore 10, 197, []), (197, .aload_n 0, 198, []), (198, .dup, 199, []), (199, .getfield 39, 202, []), (202, .iconst 1, 203, []), (203, .isub, 204, []), (204, .putfield 39, 207, []), (207, .iload 10, 209, [])]
theorem kX3_within_12 : tX3_within_12.all (am_okE cX3_within) = true := by decide +kernel
def tX3_within_13 : List am_En := [(209, .ireturn, 210, [])]
theorem kX3_within_13 : tX3_within_13.all (am_okE cX3_within) = true := by decide +kernel
def tX3_within : List (List am_En) := [tX3_within_0, tX3_within_1, tX3_within_2, tX3_within_3, tX3_within_4, tX3_within_5, tX3_within_6, tX3_within_7, tX3_within_8, tX3_within_9, tX3_within_10, tX3_within_11, tX3_within_12, tX3_within_13]
def mX3_within : am_MR := (yX3_within, cX3_within, 12, (some .int), 3, 4, (0, 0), tX3_within)
theorem kX3_within : am_chk cX3_within tX3_within = true := am_chk_c kX3_within_0 (am_chk_c kX3_within_1 (am_chk_c kX3_within_2 (am_chk_c kX3_within_3 (am_chk_c kX3_within_4 (am_chk_c kX3_within_5 (am_chk_c kX3_within_6 (am_chk_c kX3_within_7 (am_chk_c kX3_within_8 (am_chk_c kX3_within_9 (am_chk_c kX3_within_10 (am_chk_c kX3_within_11 (am_chk_c kX3_within_12 (am_chk_c kX3_within_13 (rfl))))))))))))))
def tX3_around_0 : List am_En := [(0, .aload_n 0, 1, []), (1, .getfield 18, 4, []), (4, .aload_n 0, 5, []), (5, .dup, 6, []), (6, .getfield 39, 9, []), (9, .dup_x1, 10, []), (10, .iconst 1, 11, []), (11, .iadd, 12, []), (12, .putfield 39, 15, []), (15, .aaload, 16, [])]
theorem kX3_around_0 : tX3_around_0.all (am_okE cX3_around) = true := by decide +kernel
def tX3_around_1 : List am_En := [(16, .astore 4, 18, []), (18, .aload 4, 20, []), (20, .iload_n 1, 21, []), (21, .putfield 52, 24, []), (24, .aload 4, 26, []), (26, .aload_n 2, 27, []), (27, .getfield 46, 30, []), (30, .iload_n 3, 31, []), (31, .iadd, 32, [])]
theorem kX3_around_1 : tX3_around_1.all (am_okE cX3_around) = true := by decide +kernel
def tX3_around_2 : List am_En := [(32, .putfield 46, 35, []), (35, .iconst 0, 36, []), (36, .istore 5, 38, []), (38, .iload 5, 40, []), (40, .bipush 32, 42, []), (42, .if_icmp .ge 44, 45, [86]), (45, .aload 4, 47, []), (47, .getfield 150, 50, [])]
theorem kX3_around_2 : tX3_around_2.all (am_okE cX3_around) = true := by decide +kernel
def tX3_around_3 : List am_En := [(50, .iload 5, 52, []), (52, .iload 5, 54, []), (54, .bipush 8, 56, []), (56, .if_icmp .ge 13, 59, [69]), (59, .aload_n 2, 60, []), (60, .getfield 46, 63, []), (63, .iload 5, 65, [])]
theorem kX3_around_3 : tX3_around_3.all (am_okE cX3_around) = true := by decide +kernel
def tX3_around_4 : List am_En := [(65, .iadd, 66, []), (66, .goto 13, 69, [79]), (69, .aload_n 2, 70, []), (70, .getfield 150, 73, []), (73, .iload 5, 75, []), (75, .bipush 8, 77, []), (77, .isub, 78, []), (78, .iaload, 79, []), (79, .iastore, 80, [])]
theorem kX3_around_4 : tX3_around_4.all (am_okE cX3_around) = true := by decide +kernel
def tX3_around_5 : List am_En := [(80, .iinc 5 1, 83, []), (83, .goto (-45), 86, [38]), (86, .aload 4, 88, []), (88, .areturn, 89, [])]
theorem kX3_around_5 : tX3_around_5.all (am_okE cX3_around) = true := by decide +kernel
def tX3_around : List (List am_En) := [tX3_around_0, tX3_around_1, tX3_around_2, tX3_around_3, tX3_around_4, tX3_around_5]
def mX3_around : am_MR := (yX3_around, cX3_around, 6, (some (.object "ApplyFree$Scope")), 3, 3, (0, 0), tX3_around)
theorem kX3_around : am_chk cX3_around tX3_around = true := am_chk_c kX3_around_0 (am_chk_c kX3_around_1 (am_chk_c kX3_around_2 (am_chk_c kX3_around_3 (am_chk_c kX3_around_4 (am_chk_c kX3_around_5 (rfl))))))
def tX3_attach_0 : List am_En := [(0, .aload_n 0, 1, []), (1, .getfield 26, 4, []), (4, .getfield 59, 7, []), (7, .iload_n 1, 8, []), (8, .saload, 9, []), (9, .istore_n 3, 10, []), (10, .aload_n 0, 11, []), (11, .getfield 26, 14, []), (14, .getfield 65, 17, [])]
theorem kX3_attach_0 : tX3_attach_0.all (am_okE cX3_attach) = true := by decide +kernel
def tX3_attach_1 : List am_En := [(17, .iload_n 1, 18, []), (18, .saload, 19, []), (19, .istore 4, 21, []), (21, .aload_n 0, 22, []), (22, .getfield 26, 25, []), (25, .getfield 75, 28, []), (28, .iload_n 1, 29, []), (29, .baload, 30, []), (30, .tableswitch 92 0 10 #[58, 58, 92, 92, 61, 92, 92, 92, 71, 80, 80], 88, [122, 88, 88, 122, 122, 91, 122, 122, 122, 101, 110, 110])]
theorem kX3_attach_1 : tX3_attach_1.all (am_okE cX3_attach) = true := by decide +kernel
def tX3_attach_2 : List am_En := []
theorem kX3_attach_2 : tX3_attach_2.all (am_okE cX3_attach) = true := by decide +kernel
def tX3_attach_3 : List am_En := []
theorem kX3_attach_3 : tX3_attach_3.all (am_okE cX3_attach) = true := by decide +kernel
def tX3_attach_4 : List am_En := []
theorem kX3_attach_4 : tX3_attach_4.all (am_okE cX3_attach) = true := by decide +kernel
def tX3_attach_5 : List am_En := [(88, .goto 52, 91, [140]), (91, .aload_n 0, 92, []), (92, .iload_n 1, 93, []), (93, .iload_n 3, 94, []), (94, .aload_n 2, 95, []), (95, .invokevirtual 183, 98, [])]
theorem kX3_attach_5 : tX3_attach_5.all (am_okE cX3_attach) = true := by decide +kernel
def tX3_attach_6 : List am_En := [(98, .goto 42, 101, [140]), (101, .aload_n 0, 102, []), (102, .iload_n 3, 103, []), (103, .aload_n 2, 104, []), (104, .invokevirtual 187, 107, []), (107, .goto 33, 110, [140]), (110, .aload_n 0, 111, []), (111, .iload_n 1, 112, [])]
theorem kX3_attach_6 : tX3_attach_6.all (am_okE cX3_attach) = true := by decide +kernel
def tX3_attach_7 : List am_En := [(112, .iload_n 3, 113, []), (113, .iload 4, 115, []), (115, .aload_n 2, 116, []), (116, .invokevirtual 190, 119, []), (119, .goto 21, 122, [140]), (122, .aload_n 0, 123, []), (123, .iload_n 3, 124, []), (124, .aload_n 2, 125, []), (125, .invokevirtual 167, 128, [])]
theorem kX3_attach_7 : tX3_attach_7.all (am_okE cX3_attach) = true := by decide +kernel
def tX3_attach_8 : List am_En := [(128, .iload 4, 130, []), (130, .ifCond .lt 10, 133, [140]), (133, .aload_n 0, 134, []), (134, .iload 4, 136, []), (136, .aload_n 2, 137, []), (137, .invokevirtual 167, 140, []), (140, .return_, 141, [])]
theorem kX3_attach_8 : tX3_attach_8.all (am_okE cX3_attach) = true := by decide +kernel
def tX3_attach : List (List am_En) := [tX3_attach_0, tX3_attach_1, tX3_attach_2, tX3_attach_3, tX3_attach_4, tX3_attach_5, tX3_attach_6, tX3_attach_7, tX3_attach_8]
def mX3_attach : am_MR := (yX3_attach, cX3_attach, 5, none, 3, 2, (0, 0), tX3_attach)
theorem kX3_attach : am_chk cX3_attach tX3_attach = true := am_chk_c kX3_attach_0 (am_chk_c kX3_attach_1 (am_chk_c kX3_attach_2 (am_chk_c kX3_attach_3 (am_chk_c kX3_attach_4 (am_chk_c kX3_attach_5 (am_chk_c kX3_attach_6 (am_chk_c kX3_attach_7 (am_chk_c kX3_attach_8 (rfl)))))))))
def tX3_folded_0 : List am_En := [(0, .aload_n 0, 1, []), (1, .iload_n 2, 2, []), (2, .aload_n 3, 3, []), (3, .invokevirtual 163, 6, []), (6, .astore 4, 8, []), (8, .aload_n 0, 9, []), (9, .iload_n 2, 10, []), (10, .aload 4, 12, []), (12, .invokevirtual 55, 15, []), (15, .istore 5, 17, [])]
theorem kX3_folded_0 : tX3_folded_0.all (am_okE cX3_folded) = true := by decide +kernel
def tX3_folded_1 : List am_En := [(17, .aload_n 0, 18, []), (18, .iload 5, 20, []), (20, .aload_n 0, 21, []), (21, .getfield 30, 24, []), (24, .iconst 0, 25, []), (25, .aload 4, 27, []), (27, .getfield 46, 30, []), (30, .invokevirtual 116, 33, [])]
theorem kX3_folded_1 : tX3_folded_1.all (am_okE cX3_folded) = true := by decide +kernel
def tX3_folded_2 : List am_En := [(33, .aload 4, 35, []), (35, .getfield 46, 38, []), (38, .aload_n 0, 39, []), (39, .getfield 26, 42, []), (42, .getfield 97, 45, []), (45, .iload_n 1, 46, []), (46, .baload, 47, []), (47, .aload 4, 49, [])]
theorem kX3_folded_2 : tX3_folded_2.all (am_okE cX3_folded) = true := by decide +kernel
def tX3_folded_3 : List am_En := [(49, .getfield 46, 52, []), (52, .aload_n 0, 53, []), (53, .getfield 26, 56, []), (56, .getfield 119, 59, []), (59, .iload_n 1, 60, []), (60, .baload, 61, []), (61, .iadd, 62, []), (62, .invokevirtual 133, 65, [])]
theorem kX3_folded_3 : tX3_folded_3.all (am_okE cX3_folded) = true := by decide +kernel
def tX3_folded_4 : List am_En := [(65, .istore 6, 67, []), (67, .aload_n 0, 68, []), (68, .aload_n 3, 69, []), (69, .aload_n 0, 70, []), (70, .getfield 30, 73, []), (73, .iconst 1, 74, []), (74, .aload_n 3, 75, []), (75, .getfield 52, 78, []), (78, .iload 6, 80, [])]
theorem kX3_folded_4 : tX3_folded_4.all (am_okE cX3_folded) = true := by decide +kernel
def tX3_folded_5 : List am_En := [(80, .aload 4, 82, []), (82, .getfield 153, 85, []), (85, .aload 4, 87, []), (87, .getfield 46, 90, []), (90, .aload_n 0, 91, []), (91, .getfield 26, 94, []), (94, .getfield 97, 97, [])]
theorem kX3_folded_5 : tX3_folded_5.all (am_okE cX3_folded) = true := by decide +kernel
def tX3_folded_6 : List am_En := [(97, .iload_n 1, 98, []), (98, .baload, 99, []), (99, .invokestatic 137, 102, []), (102, .invokevirtual 129, 105, []), (105, .invokevirtual 194, 108, []), (108, .aload_n 0, 109, []), (109, .dup, 110, []), (110, .getfield 39, 113, [])]
theorem kX3_folded_6 : tX3_folded_6.all (am_okE cX3_folded) = true := by decide +kernel
def tX3_folded_7 : List am_En := [(113, .iconst 1, 114, []), (114, .isub, 115, []), (115, .putfield 39, 118, []), (118, .return_, 119, [])]
theorem kX3_folded_7 : tX3_folded_7.all (am_okE cX3_folded) = true := by decide +kernel
def tX3_folded : List (List am_En) := [tX3_folded_0, tX3_folded_1, tX3_folded_2, tX3_folded_3, tX3_folded_4, tX3_folded_5, tX3_folded_6, tX3_folded_7]
def mX3_folded : am_MR := (yX3_folded, cX3_folded, 7, none, 3, 3, (0, 0), tX3_folded)
theorem kX3_folded : am_chk cX3_folded tX3_folded = true := am_chk_c kX3_folded_0 (am_chk_c kX3_folded_1 (am_chk_c kX3_folded_2 (am_chk_c kX3_folded_3 (am_chk_c kX3_folded_4 (am_chk_c kX3_folded_5 (am_chk_c kX3_folded_6 (am_chk_c kX3_folded_7 (rfl))))))))
def tX3_choices_0 : List am_En := [(0, .aload_n 0, 1, []), (1, .getfield 18, 4, []), (4, .aload_n 0, 5, []), (5, .dup, 6, []), (6, .getfield 39, 9, []), (9, .dup_x1, 10, []), (10, .iconst 1, 11, []), (11, .iadd, 12, []), (12, .putfield 39, 15, []), (15, .aaload, 16, [])]
theorem kX3_choices_0 : tX3_choices_0.all (am_okE cX3_choices) = true := by decide +kernel
def tX3_choices_1 : List am_En := [(16, .astore_n 3, 17, []), (17, .aload_n 3, 18, []), (18, .iconst 0, 19, []), (19, .putfield 46, 22, []), (22, .aload_n 3, 23, []), (23, .aload_n 0, 24, []), (24, .getfield 30, 27, []), (27, .getfield 143, 30, []), (30, .putfield 153, 33, [])]
theorem kX3_choices_1 : tX3_choices_1.all (am_okE cX3_choices) = true := by decide +kernel
def tX3_choices_2 : List am_En := [(33, .iconst 0, 34, []), (34, .istore 4, 36, []), (36, .iload 4, 38, []), (38, .bipush 32, 40, []), (40, .if_icmp .ge 59, 43, [99]), (43, .aload_n 0, 44, []), (44, .getfield 26, 47, []), (47, .getfield 68, 50, [])]
theorem kX3_choices_2 : tX3_choices_2.all (am_okE cX3_choices) = true := by decide +kernel
def tX3_choices_3 : List am_En := [(50, .iload_n 1, 51, []), (51, .iaload, 52, []), (52, .iload 4, 54, []), (54, .iushr, 55, []), (55, .iconst 1, 56, []), (56, .iand, 57, []), (57, .iconst 1, 58, []), (58, .if_icmp .ne 35, 61, [93]), (61, .aload_n 0, 62, []), (62, .getfield 30, 65, [])]
theorem kX3_choices_3 : tX3_choices_3.all (am_okE cX3_choices) = true := by decide +kernel
def tX3_choices_4 : List am_En := [(65, .aload_n 2, 66, []), (66, .getfield 150, 69, []), (69, .iload 4, 71, []), (71, .iaload, 72, []), (72, .invokevirtual 122, 75, []), (75, .aload_n 3, 76, []), (76, .getfield 150, 79, []), (79, .iload 4, 81, [])]
theorem kX3_choices_4 : tX3_choices_4.all (am_okE cX3_choices) = true := by decide +kernel
def tX3_choices_5 : List am_En := [(81, .aload_n 3, 82, []), (82, .dup, 83, []), (83, .getfield 46, 86, []), (86, .dup_x1, 87, []), (87, .iconst 1, 88, []), (88, .iadd, 89, []), (89, .putfield 46, 92, []), (92, .iastore, 93, []), (93, .iinc 4 1, 96, [])]
theorem kX3_choices_5 : tX3_choices_5.all (am_okE cX3_choices) = true := by decide +kernel
def tX3_choices_6 : List am_En := [(96, .goto (-60), 99, [36]), (99, .aload_n 3, 100, []), (100, .aload_n 0, 101, []), (101, .getfield 30, 104, []), (104, .aload_n 0, 105, []), (105, .getfield 30, 108, []), (108, .aload_n 2, 109, []), (109, .getfield 52, 112, [])]
theorem kX3_choices_6 : tX3_choices_6.all (am_okE cX3_choices) = true := by decide +kernel
def tX3_choices_7 : List am_En := [(112, .aload_n 3, 113, []), (113, .getfield 153, 116, []), (116, .aload_n 3, 117, []), (117, .getfield 46, 120, []), (120, .invokevirtual 126, 123, []), (123, .invokevirtual 107, 126, []), (126, .putfield 52, 129, [])]
theorem kX3_choices_7 : tX3_choices_7.all (am_okE cX3_choices) = true := by decide +kernel
def tX3_choices_8 : List am_En := [(129, .aload_n 3, 130, []), (130, .areturn, 131, [])]
theorem kX3_choices_8 : tX3_choices_8.all (am_okE cX3_choices) = true := by decide +kernel
def tX3_choices : List (List am_En) := [tX3_choices_0, tX3_choices_1, tX3_choices_2, tX3_choices_3, tX3_choices_4, tX3_choices_5, tX3_choices_6, tX3_choices_7, tX3_choices_8]
def mX3_choices : am_MR := (yX3_choices, cX3_choices, 5, (some (.object "ApplyFree$Scope")), 3, 2, (0, 0), tX3_choices)
theorem kX3_choices : am_chk cX3_choices tX3_choices = true := am_chk_c kX3_choices_0 (am_chk_c kX3_choices_1 (am_chk_c kX3_choices_2 (am_chk_c kX3_choices_3 (am_chk_c kX3_choices_4 (am_chk_c kX3_choices_5 (am_chk_c kX3_choices_6 (am_chk_c kX3_choices_7 (am_chk_c kX3_choices_8 (rfl)))))))))
def tX3_fold_0 : List am_En := [(0, .iload 4, 2, []), (2, .iconst 5, 3, []), (3, .if_icmp .ge 18, 6, [21]), (6, .aload_n 0, 7, []), (7, .getfield 30, 10, []), (10, .iload_n 1, 11, []), (11, .iload_n 2, 12, []), (12, .iload_n 3, 13, []), (13, .iload 4, 15, []), (15, .iload 5, 17, [])]
theorem kX3_fold_0 : tX3_fold_0.all (am_okE cX3_fold) = true := by decide +kernel
def tX3_fold_1 : List am_En := [(17, .invokevirtual 140, 20, []), (20, .ireturn, 21, []), (21, .aload_n 0, 22, []), (22, .getfield 30, 25, []), (25, .getfield 143, 28, []), (28, .istore 6, 30, []), (30, .iconst 0, 31, []), (31, .istore 7, 33, [])]
theorem kX3_fold_1 : tX3_fold_1.all (am_okE cX3_fold) = true := by decide +kernel
def tX3_fold_2 : List am_En := [(33, .iload 7, 35, []), (35, .iload_n 3, 36, []), (36, .if_icmp .ge 28, 39, [64]), (39, .aload_n 0, 40, []), (40, .getfield 30, 43, []), (43, .aload_n 0, 44, []), (44, .getfield 30, 47, []), (47, .getfield 146, 50, [])]
theorem kX3_fold_2 : tX3_fold_2.all (am_okE cX3_fold) = true := by decide +kernel
def tX3_fold_3 : List am_En := [(50, .iload_n 2, 51, []), (51, .iload 7, 53, []), (53, .iadd, 54, []), (54, .iaload, 55, []), (55, .invokevirtual 122, 58, []), (58, .iinc 7 1, 61, []), (61, .goto (-28), 64, [33])]
theorem kX3_fold_3 : tX3_fold_3.all (am_okE cX3_fold) = true := by decide +kernel
def tX3_fold_4 : List am_En := [(64, .aload_n 0, 65, []), (65, .getfield 30, 68, []), (68, .iload 5, 70, []), (70, .invokevirtual 122, 73, []), (73, .aload_n 0, 74, []), (74, .getfield 30, 77, []), (77, .aload_n 0, 78, []), (78, .getfield 30, 81, [])]
theorem kX3_fold_4 : tX3_fold_4.all (am_okE cX3_fold) = true := by decide +kernel
def tX3_fold_5 : List am_En := [(81, .iload_n 1, 82, []), (82, .iload 6, 84, []), (84, .iload_n 3, 85, []), (85, .iconst 1, 86, []), (86, .iadd, 87, []), (87, .invokevirtual 126, 90, []), (90, .invokevirtual 107, 93, []), (93, .istore 7, 95, []), (95, .aload_n 0, 96, [])]
theorem kX3_fold_5 : tX3_fold_5.all (am_okE cX3_fold) = true := by decide +kernel
def tX3_fold_6 : List am_En := [(96, .getfield 30, 99, []), (99, .iload 7, 101, []), (101, .aload_n 0, 102, []), (102, .getfield 30, 105, []), (105, .iconst 0, 106, []), (106, .iload_n 3, 107, []), (107, .invokevirtual 116, 110, []), (110, .iload_n 3, 111, []), (111, .iconst 1, 112, [])]
theorem kX3_fold_6 : tX3_fold_6.all (am_okE cX3_fold) = true := by decide +kernel
def tX3_fold_7 : List am_En := [(112, .iload_n 3, 113, []), (113, .invokevirtual 140, 116, []), (116, .ireturn, 117, [])]
theorem kX3_fold_7 : tX3_fold_7.all (am_okE cX3_fold) = true := by decide +kernel
def tX3_fold : List (List am_En) := [tX3_fold_0, tX3_fold_1, tX3_fold_2, tX3_fold_3, tX3_fold_4, tX3_fold_5, tX3_fold_6, tX3_fold_7]
def mX3_fold : am_MR := (yX3_fold, cX3_fold, 8, (some .int), 3, 5, (0, 0), tX3_fold)
theorem kX3_fold : am_chk cX3_fold tX3_fold = true := am_chk_c kX3_fold_0 (am_chk_c kX3_fold_1 (am_chk_c kX3_fold_2 (am_chk_c kX3_fold_3 (am_chk_c kX3_fold_4 (am_chk_c kX3_fold_5 (am_chk_c kX3_fold_6 (am_chk_c kX3_fold_7 (rfl))))))))
def tX3_ofNone_0 : List am_En := [(0, .iload_n 0, 1, []), (1, .ifCond .eq 13, 4, [14]), (4, .iload_n 0, 5, []), (5, .iconst 1, 6, []), (6, .if_icmp .eq 8, 9, [14]), (9, .iload_n 0, 10, []), (10, .iconst 5, 11, []), (11, .if_icmp .ne 7, 14, [18]), (14, .iconst 0, 15, []), (15, .goto 5, 18, [20])]
theorem kX3_ofNone_0 : tX3_ofNone_0.all (am_okE cX3_ofNone) = true := by decide +kernel
def tX3_ofNone_1 : List am_En := [(18, .ldc 149, 20, []), (20, .ireturn, 21, [])]
theorem kX3_ofNone_1 : tX3_ofNone_1.all (am_okE cX3_ofNone) = true := by decide +kernel
def tX3_ofNone : List (List am_En) := [tX3_ofNone_0, tX3_ofNone_1]
def mX3_ofNone : am_MR := (yX3_ofNone, cX3_ofNone, 1, (some .int), 3, 1, (0, 0), tX3_ofNone)
theorem kX3_ofNone : am_chk cX3_ofNone tX3_ofNone = true := am_chk_c kX3_ofNone_0 (am_chk_c kX3_ofNone_1 (rfl))
def tX3_note_0 : List am_En := [(0, .aload_n 1, 1, []), (1, .iload_n 2, 2, []), (2, .putfield 52, 5, []), (5, .aload_n 0, 6, []), (6, .getfield 22, 9, []), (9, .aload_n 0, 10, []), (10, .dup, 11, []), (11, .getfield 43, 14, []), (14, .dup_x1, 15, []), (15, .iconst 1, 16, [])]
theorem kX3_note_0 : tX3_note_0.all (am_okE cX3_note) = true := by decide +kernel
def tX3_note_1 : List am_En := [(16, .iadd, 17, []), (17, .putfield 43, 20, []), (20, .aload_n 1, 21, []), (21, .dup, 22, []), (22, .getfield 46, 25, []), (25, .dup_x1, 26, []), (26, .iconst 1, 27, []), (27, .iadd, 28, []), (28, .putfield 46, 31, []), (31, .iastore, 32, [])]
theorem kX3_note_1 : tX3_note_1.all (am_okE cX3_note) = true := by decide +kernel
def tX3_note_2 : List am_En := [(32, .return_, 33, [])]
theorem kX3_note_2 : tX3_note_2.all (am_okE cX3_note) = true := by decide +kernel
def tX3_note : List (List am_En) := [tX3_note_0, tX3_note_1, tX3_note_2]
def mX3_note : am_MR := (yX3_note, cX3_note, 3, none, 3, 2, (0, 0), tX3_note)
theorem kX3_note : am_chk cX3_note tX3_note = true := am_chk_c kX3_note_0 (am_chk_c kX3_note_1 (am_chk_c kX3_note_2 (rfl)))
def tX3_has_0 : List am_En := [(0, .aload_n 0, 1, []), (1, .iload_n 1, 2, []), (2, .aload_n 2, 3, []), (3, .invokevirtual 163, 6, []), (6, .astore_n 3, 7, []), (7, .aload_n 0, 8, []), (8, .iload_n 1, 9, []), (9, .aload_n 3, 10, []), (10, .invokevirtual 55, 13, []), (13, .istore 4, 15, []), (15, .aload_n 0, 16, [])]
theorem kX3_has_0 : tX3_has_0.all (am_okE cX3_has) = true := by decide +kernel
def tX3_has_1 : List am_En := [(16, .getfield 30, 19, []), (19, .aload_n 0, 20, []), (20, .getfield 30, 23, []), (23, .iload 4, 25, []), (25, .aload_n 3, 26, []), (26, .getfield 46, 29, []), (29, .invokevirtual 198, 32, [])]
theorem kX3_has_1 : tX3_has_1.all (am_okE cX3_has) = true := by decide +kernel
def tX3_has_2 : List am_En := [(32, .invokevirtual 107, 35, []), (35, .istore 5, 37, []), (37, .aload_n 0, 38, []), (38, .aload_n 2, 39, []), (39, .aload_n 0, 40, []), (40, .getfield 30, 43, []), (43, .iconst 4, 44, []), (44, .aload_n 2, 45, []), (45, .getfield 52, 48, [])]
theorem kX3_has_2 : tX3_has_2.all (am_okE cX3_has) = true := by decide +kernel
def tX3_has_3 : List am_En := [(48, .iload 5, 50, []), (50, .aload_n 3, 51, []), (51, .getfield 153, 54, []), (54, .aload_n 3, 55, []), (55, .getfield 46, 58, []), (58, .iconst 0, 59, []), (59, .invokevirtual 129, 62, []), (62, .invokevirtual 194, 65, [])]
theorem kX3_has_3 : tX3_has_3.all (am_okE cX3_has) = true := by decide +kernel
def tX3_has_4 : List am_En := [(65, .aload_n 0, 66, []), (66, .dup, 67, []), (67, .getfield 39, 70, []), (70, .iconst 1, 71, []), (71, .isub, 72, []), (72, .putfield 39, 75, []), (75, .return_, 76, [])]
theorem kX3_has_4 : tX3_has_4.all (am_okE cX3_has) = true := by decide +kernel
def tX3_has : List (List am_En) := [tX3_has_0, tX3_has_1, tX3_has_2, tX3_has_3, tX3_has_4]
def mX3_has : am_MR := (yX3_has, cX3_has, 6, none, 3, 2, (0, 0), tX3_has)
theorem kX3_has : am_chk cX3_has tX3_has = true := am_chk_c kX3_has_0 (am_chk_c kX3_has_1 (am_chk_c kX3_has_2 (am_chk_c kX3_has_3 (am_chk_c kX3_has_4 (rfl)))))
def tX3_quantified_0 : List am_En := [(0, .aload_n 0, 1, []), (1, .getfield 43, 4, []), (4, .istore 5, 6, []), (6, .aload_n 0, 7, []), (7, .iload_n 2, 8, []), (8, .aload 4, 10, []), (10, .invokevirtual 167, 13, []), (13, .aload_n 0, 14, []), (14, .getfield 30, 17, [])]
theorem kX3_quantified_0 : tX3_quantified_0.all (am_okE cX3_quantified) = true := by decide +kernel
def tX3_quantified_1 : List am_En := [(17, .getfield 143, 20, []), (20, .istore 6, 22, []), (22, .aload_n 0, 23, []), (23, .iload 5, 25, []), (25, .putfield 171, 28, []), (28, .aload_n 0, 29, []), (29, .iload_n 2, 30, []), (30, .aload 4, 32, [])]
theorem kX3_quantified_1 : tX3_quantified_1.all (am_okE cX3_quantified) = true := by decide +kernel
def tX3_quantified_2 : List am_En := [(32, .invokevirtual 174, 35, []), (35, .aload_n 0, 36, []), (36, .iload 5, 38, []), (38, .putfield 43, 41, []), (41, .aload 4, 43, []), (43, .aload_n 0, 44, []), (44, .getfield 30, 47, []), (47, .aload 4, 49, [])]
theorem kX3_quantified_2 : tX3_quantified_2.all (am_okE cX3_quantified) = true := by decide +kernel
def tX3_quantified_3 : List am_En := [(49, .getfield 52, 52, []), (52, .iload 6, 54, []), (54, .invokevirtual 180, 57, []), (57, .putfield 52, 60, []), (60, .aload 4, 62, []), (62, .dup, 63, []), (63, .getfield 46, 66, [])]
theorem kX3_quantified_3 : tX3_quantified_3.all (am_okE cX3_quantified) = true := by decide +kernel
def tX3_quantified_4 : List am_En := [(66, .dup_x1, 67, []), (67, .iconst 1, 68, []), (68, .iadd, 69, []), (69, .putfield 46, 72, []), (72, .istore 7, 74, []), (74, .aload_n 0, 75, []), (75, .iload_n 3, 76, []), (76, .aload 4, 78, []), (78, .invokevirtual 163, 81, [])]
theorem kX3_quantified_4 : tX3_quantified_4.all (am_okE cX3_quantified) = true := by decide +kernel
def tX3_quantified_5 : List am_En := [(81, .astore 8, 83, []), (83, .aload 8, 85, []), (85, .getfield 46, 88, []), (88, .istore 9, 90, []), (90, .aload_n 0, 91, []), (91, .iload_n 3, 92, []), (92, .aload 8, 94, []), (94, .invokevirtual 55, 97, [])]
theorem kX3_quantified_5 : tX3_quantified_5.all (am_okE cX3_quantified) = true := by decide +kernel
def tX3_quantified_6 : List am_En := [(97, .istore 10, 99, []), (99, .aload_n 0, 100, []), (100, .getfield 30, 103, []), (103, .getfield 143, 106, []), (106, .istore 11, 108, []), (108, .iconst 0, 109, []), (109, .istore 12, 111, []), (111, .iload 12, 113, [])]
theorem kX3_quantified_6 : tX3_quantified_6.all (am_okE cX3_quantified) = true := by decide +kernel
def tX3_quantified_7 : List am_En := [(113, .iload 9, 115, []), (115, .if_icmp .ge 32, 118, [147]), (118, .aload_n 0, 119, []), (119, .getfield 30, 122, []), (122, .aload_n 0, 123, []), (123, .getfield 30, 126, []), (126, .getfield 146, 129, [])]
theorem kX3_quantified_7 : tX3_quantified_7.all (am_okE cX3_quantified) = true := by decide +kernel
def tX3_quantified_8 : List am_En := [(129, .aload 8, 131, []), (131, .getfield 153, 134, []), (134, .iload 12, 136, []), (136, .iadd, 137, []), (137, .iaload, 138, []), (138, .invokevirtual 122, 141, []), (141, .iinc 12 1, 144, [])]
theorem kX3_quantified_8 : tX3_quantified_8.all (am_okE cX3_quantified) = true := by decide +kernel
def tX3_quantified_9 : List am_En := [(144, .goto (-33), 147, [111]), (147, .aload_n 0, 148, []), (148, .getfield 30, 151, []), (151, .iload 7, 153, []), (153, .invokevirtual 122, 156, []), (156, .aload_n 0, 157, []), (157, .getfield 30, 160, [])]
theorem kX3_quantified_9 : tX3_quantified_9.all (am_okE cX3_quantified) = true := by decide +kernel
def tX3_quantified_10 : List am_En := [(160, .aload_n 0, 161, []), (161, .getfield 30, 164, []), (164, .aload 4, 166, []), (166, .getfield 52, 169, []), (169, .iload 11, 171, []), (171, .iload 9, 173, []), (173, .iconst 1, 174, []), (174, .iadd, 175, []), (175, .invokevirtual 126, 178, [])]
theorem kX3_quantified_10 : tX3_quantified_10.all (am_okE cX3_quantified) = true := by decide +kernel
def tX3_quantified_11 : List am_En := [(178, .invokevirtual 107, 181, []), (181, .istore 12, 183, []), (183, .aload_n 0, 184, []), (184, .getfield 30, 187, []), (187, .iconst 0, 188, []), (188, .iload 12, 190, []), (190, .iload 10, 192, [])]
theorem kX3_quantified_11 : tX3_quantified_11.all (am_okE cX3_quantified) = true := by decide +kernel
def tX3_quantified_12 : List am_En := [(192, .aload_n 0, 193, []), (193, .getfield 30, 196, []), (196, .iconst 0, 197, []), (197, .iload 9, 199, []), (199, .invokevirtual 116, 202, []), (202, .iload 9, 204, []), (204, .iconst 0, 205, []), (205, .invokevirtual 129, 208, [])]
theorem kX3_quantified_12 : tX3_quantified_12.all (am_okE cX3_quantified) = true := by decide +kernel
def tX3_quantified_13 : List am_En := [(208, .istore 13, 210, []), (210, .aload_n 0, 211, []), (211, .getfield 22, 214, []), (214, .aload_n 0, 215, []), (215, .dup, 216, []), (216, .getfield 43, 219, []), (219, .dup_x1, 220, []), (220, .iconst 1, 221, []), (221, .iadd, 222, []), (222, .putfield 43, 225, [])]
theorem kX3_quantified_13 : tX3_quantified_13.all (am_okE cX3_quantified) = true := by decide +kernel
def tX3_quantified_14 : List am_En := [(225, .aload 4, 227, []), (227, .getfield 46, 230, []), (230, .iastore, 231, []), (231, .aload_n 0, 232, []), (232, .getfield 26, 235, []), (235, .getfield 75, 238, []), (238, .iload_n 1, 239, []), (239, .baload, 240, [])]
theorem kX3_quantified_14 : tX3_quantified_14.all (am_okE cX3_quantified) = true := by decide +kernel
def tX3_quantified_15 : List am_En := [(240, .bipush 9, 242, []), (242, .if_icmp .ne 7, 245, [249]), (245, .iconst 1, 246, []), (246, .goto 4, 249, [250]), (249, .iconst 0, 250, []), (250, .istore 14, 252, []), (252, .aload_n 0, 253, []), (253, .aload 4, 255, []), (255, .iload 13, 257, [])]
theorem kX3_quantified_15 : tX3_quantified_15.all (am_okE cX3_quantified) = true := by decide +kernel
def tX3_quantified_16 : List am_En := [(257, .iload 11, 259, []), (259, .iload 9, 261, []), (261, .iload 14, 263, []), (263, .ifCond .eq 15, 266, [278]), (266, .aload_n 0, 267, []), (267, .getfield 26, 270, []), (270, .getfield 97, 273, [])]
theorem kX3_quantified_16 : tX3_quantified_16.all (am_okE cX3_quantified) = true := by decide +kernel
def tX3_quantified_17 : List am_En := [(273, .iload_n 1, 274, []), (274, .baload, 275, []), (275, .goto 14, 278, [289]), (278, .iconst 5, 279, []), (279, .aload_n 0, 280, []), (280, .getfield 26, 283, []), (283, .getfield 97, 286, []), (286, .iload_n 1, 287, []), (287, .baload, 288, [])]
theorem kX3_quantified_17 : tX3_quantified_17.all (am_okE cX3_quantified) = true := by decide +kernel
def tX3_quantified_18 : List am_En := [(288, .iadd, 289, []), (289, .invokevirtual 201, 292, []), (292, .aload_n 0, 293, []), (293, .aload 4, 295, []), (295, .iload 13, 297, []), (297, .iload 11, 299, []), (299, .iload 9, 301, []), (301, .bipush 10, 303, []), (303, .aload_n 0, 304, [])]
theorem kX3_quantified_18 : tX3_quantified_18.all (am_okE cX3_quantified) = true := by decide +kernel
def tX3_quantified_19 : List am_En := [(304, .getfield 26, 307, []), (307, .getfield 97, 310, []), (310, .iload_n 1, 311, []), (311, .baload, 312, []), (312, .iadd, 313, []), (313, .invokevirtual 201, 316, []), (316, .aload_n 0, 317, []), (317, .dup, 318, []), (318, .getfield 39, 321, [])]
theorem kX3_quantified_19 : tX3_quantified_19.all (am_okE cX3_quantified) = true := by decide +kernel
def tX3_quantified_20 : List am_En := [(321, .iconst 1, 322, []), (322, .isub, 323, []), (323, .putfield 39, 326, []), (326, .return_, 327, [])]
theorem kX3_quantified_20 : tX3_quantified_20.all (am_okE cX3_quantified) = true := by decide +kernel
def tX3_quantified : List (List am_En) := [tX3_quantified_0, tX3_quantified_1, tX3_quantified_2, tX3_quantified_3, tX3_quantified_4, tX3_quantified_5, tX3_quantified_6, tX3_quantified_7, tX3_quantified_8, tX3_quantified_9, tX3_quantified_10, tX3_quantified_11, tX3_quantified_12, tX3_quantified_13, tX3_quantified_14, tX3_quantified_15, tX3_quantified_16, tX3_quantified_17, tX3_quantified_18, tX3_quantified_19, tX3_quantified_20]
def mX3_quantified : am_MR := (yX3_quantified, cX3_quantified, 15, none, 3, 4, (0, 0), tX3_quantified)
theorem kX3_quantified : am_chk cX3_quantified tX3_quantified = true := am_chk_c kX3_quantified_0 (am_chk_c kX3_quantified_1 (am_chk_c kX3_quantified_2 (am_chk_c kX3_quantified_3 (am_chk_c kX3_quantified_4 (am_chk_c kX3_quantified_5 (am_chk_c kX3_quantified_6 (am_chk_c kX3_quantified_7 (am_chk_c kX3_quantified_8 (am_chk_c kX3_quantified_9 (am_chk_c kX3_quantified_10 (am_chk_c kX3_quantified_11 (am_chk_c kX3_quantified_12 (am_chk_c kX3_quantified_13 (am_chk_c kX3_quantified_14 (am_chk_c kX3_quantified_15 (am_chk_c kX3_quantified_16 (am_chk_c kX3_quantified_17 (am_chk_c kX3_quantified_18 (am_chk_c kX3_quantified_19 (am_chk_c kX3_quantified_20 (rfl)))))))))))))))))))))
def tX3_write_0 : List am_En := [(0, .aload_n 0, 1, []), (1, .getfield 26, 4, []), (4, .getfield 59, 7, []), (7, .iload_n 1, 8, []), (8, .saload, 9, []), (9, .istore_n 3, 10, []), (10, .aload_n 0, 11, []), (11, .getfield 26, 14, []), (14, .getfield 65, 17, [])]
theorem kX3_write_0 : tX3_write_0.all (am_okE cX3_write) = true := by decide +kernel
def tX3_write_1 : List am_En := [(17, .iload_n 1, 18, []), (18, .saload, 19, []), (19, .istore 4, 21, []), (21, .aload_n 0, 22, []), (22, .getfield 26, 25, []), (25, .getfield 97, 28, []), (28, .iload_n 1, 29, []), (29, .baload, 30, []), (30, .istore 5, 32, [])]
theorem kX3_write_1 : tX3_write_1.all (am_okE cX3_write) = true := by decide +kernel
def tX3_write_2 : List am_En := [(32, .aload_n 0, 33, []), (33, .getfield 26, 36, []), (36, .getfield 75, 39, []), (39, .iload_n 1, 40, []), (40, .baload, 41, []), (41, .tableswitch 230 0 10 #[59, 86, 230, 118, 127, 230, 213, 230, 127, 161, 161], 100, [271, 100, 127, 271, 159, 168, 271, 254, 271, 168, 202, 202])]
theorem kX3_write_2 : tX3_write_2.all (am_okE cX3_write) = true := by decide +kernel
def tX3_write_3 : List am_En := []
theorem kX3_write_3 : tX3_write_3.all (am_okE cX3_write) = true := by decide +kernel
def tX3_write_4 : List am_En := []
theorem kX3_write_4 : tX3_write_4.all (am_okE cX3_write) = true := by decide +kernel
def tX3_write_5 : List am_En := []
theorem kX3_write_5 : tX3_write_5.all (am_okE cX3_write) = true := by decide +kernel
def tX3_write_6 : List am_En := [(100, .aload_n 0, 101, []), (101, .getfield 30, 104, []), (104, .iconst 0, 105, []), (105, .invokevirtual 122, 108, []), (108, .aload_n 0, 109, []), (109, .getfield 30, 112, [])]
theorem kX3_write_6 : tX3_write_6.all (am_okE cX3_write) = true := by decide +kernel
def tX3_write_7 : List am_En := [(112, .aload_n 0, 113, []), (113, .getfield 26, 116, []), (116, .getfield 79, 119, []), (119, .iload_n 1, 120, []), (120, .iaload, 121, []), (121, .invokevirtual 122, 124, []), (124, .goto 212, 127, [336]), (127, .aload_n 0, 128, [])]
theorem kX3_write_7 : tX3_write_7.all (am_okE cX3_write) = true := by decide +kernel
def tX3_write_8 : List am_En := [(128, .getfield 30, 131, []), (131, .iconst 1, 132, []), (132, .invokevirtual 122, 135, []), (135, .aload_n 0, 136, []), (136, .getfield 30, 139, []), (139, .aload_n 2, 140, []), (140, .getfield 150, 143, []), (143, .aload_n 0, 144, [])]
theorem kX3_write_8 : tX3_write_8.all (am_okE cX3_write) = true := by decide +kernel
def tX3_write_9 : List am_En := [(144, .getfield 26, 147, []), (147, .getfield 79, 150, []), (150, .iload_n 1, 151, []), (151, .iaload, 152, []), (152, .iaload, 153, []), (153, .invokevirtual 122, 156, []), (156, .goto 180, 159, [336]), (159, .aload_n 0, 160, [])]
theorem kX3_write_9 : tX3_write_9.all (am_okE cX3_write) = true := by decide +kernel
def tX3_write_10 : List am_En := [(160, .iload_n 3, 161, []), (161, .aload_n 2, 162, []), (162, .invokevirtual 174, 165, []), (165, .goto 171, 168, [336]), (168, .aload_n 0, 169, []), (169, .getfield 30, 172, []), (172, .iconst 1, 173, []), (173, .invokevirtual 122, 176, [])]
theorem kX3_write_10 : tX3_write_10.all (am_okE cX3_write) = true := by decide +kernel
def tX3_write_11 : List am_En := [(176, .aload_n 0, 177, []), (177, .getfield 30, 180, []), (180, .aload_n 0, 181, []), (181, .getfield 22, 184, []), (184, .aload_n 0, 185, []), (185, .dup, 186, []), (186, .getfield 171, 189, []), (189, .dup_x1, 190, []), (190, .iconst 1, 191, []), (191, .iadd, 192, [])]
theorem kX3_write_11 : tX3_write_11.all (am_okE cX3_write) = true := by decide +kernel
def tX3_write_12 : List am_En := [(192, .putfield 171, 195, []), (195, .iaload, 196, []), (196, .invokevirtual 122, 199, []), (199, .goto 137, 202, [336]), (202, .aload_n 0, 203, []), (203, .getfield 30, 206, []), (206, .aload_n 0, 207, []), (207, .getfield 26, 210, [])]
theorem kX3_write_12 : tX3_write_12.all (am_okE cX3_write) = true := by decide +kernel
def tX3_write_13 : List am_En := [(210, .getfield 75, 213, []), (213, .iload_n 1, 214, []), (214, .baload, 215, []), (215, .bipush 9, 217, []), (217, .if_icmp .ne 7, 220, [224]), (220, .iconst 2, 221, []), (221, .goto 4, 224, [225])]
theorem kX3_write_13 : tX3_write_13.all (am_okE cX3_write) = true := by decide +kernel
def tX3_write_14 : List am_En := [(224, .iconst 3, 225, []), (225, .invokevirtual 122, 228, []), (228, .aload_n 0, 229, []), (229, .getfield 30, 232, []), (232, .aload_n 0, 233, []), (233, .getfield 22, 236, []), (236, .aload_n 0, 237, []), (237, .dup, 238, []), (238, .getfield 171, 241, [])]
theorem kX3_write_14 : tX3_write_14.all (am_okE cX3_write) = true := by decide +kernel
def tX3_write_15 : List am_En := [(241, .dup_x1, 242, []), (242, .iconst 1, 243, []), (243, .iadd, 244, []), (244, .putfield 171, 247, []), (247, .iaload, 248, []), (248, .invokevirtual 122, 251, []), (251, .goto 85, 254, [336]), (254, .aload_n 0, 255, []), (255, .iload_n 3, 256, [])]
theorem kX3_write_15 : tX3_write_15.all (am_okE cX3_write) = true := by decide +kernel
def tX3_write_16 : List am_En := [(256, .aload_n 2, 257, []), (257, .invokevirtual 174, 260, []), (260, .aload_n 0, 261, []), (261, .getfield 30, 264, []), (264, .iconst 4, 265, []), (265, .invokevirtual 122, 268, []), (268, .goto 68, 271, [336]), (271, .aload_n 0, 272, [])]
theorem kX3_write_16 : tX3_write_16.all (am_okE cX3_write) = true := by decide +kernel
def tX3_write_17 : List am_En := [(272, .iload_n 3, 273, []), (273, .aload_n 2, 274, []), (274, .invokevirtual 174, 277, []), (277, .iload 4, 279, []), (279, .ifCond .lt 10, 282, [289]), (282, .aload_n 0, 283, []), (283, .iload 4, 285, []), (285, .aload_n 2, 286, []), (286, .invokevirtual 174, 289, [])]
theorem kX3_write_17 : tX3_write_17.all (am_okE cX3_write) = true := by decide +kernel
def tX3_write_18 : List am_En := [(289, .aload_n 0, 290, []), (290, .getfield 30, 293, []), (293, .aload_n 0, 294, []), (294, .getfield 26, 297, []), (297, .getfield 75, 300, []), (300, .iload_n 1, 301, []), (301, .baload, 302, []), (302, .iconst 2, 303, []), (303, .if_icmp .ne 7, 306, [310])]
theorem kX3_write_18 : tX3_write_18.all (am_okE cX3_write) = true := by decide +kernel
def tX3_write_19 : List am_En := [(306, .iconst 5, 307, []), (307, .goto 23, 310, [330]), (310, .aload_n 0, 311, []), (311, .getfield 26, 314, []), (314, .getfield 75, 317, []), (317, .iload_n 1, 318, []), (318, .baload, 319, []), (319, .iconst 5, 320, [])]
theorem kX3_write_19 : tX3_write_19.all (am_okE cX3_write) = true := by decide +kernel
def tX3_write_20 : List am_En := [(320, .if_icmp .ne 8, 323, [328]), (323, .bipush 16, 325, []), (325, .goto 5, 328, [330]), (328, .bipush 8, 330, []), (330, .iload 5, 332, []), (332, .iadd, 333, []), (333, .invokevirtual 122, 336, [])]
theorem kX3_write_20 : tX3_write_20.all (am_okE cX3_write) = true := by decide +kernel
def tX3_write_21 : List am_En := [(336, .return_, 337, [])]
theorem kX3_write_21 : tX3_write_21.all (am_okE cX3_write) = true := by decide +kernel
def tX3_write : List (List am_En) := [tX3_write_0, tX3_write_1, tX3_write_2, tX3_write_3, tX3_write_4, tX3_write_5, tX3_write_6, tX3_write_7, tX3_write_8, tX3_write_9, tX3_write_10, tX3_write_11, tX3_write_12, tX3_write_13, tX3_write_14, tX3_write_15, tX3_write_16, tX3_write_17, tX3_write_18, tX3_write_19, tX3_write_20, tX3_write_21]
def mX3_write : am_MR := (yX3_write, cX3_write, 6, none, 3, 2, (0, 0), tX3_write)
theorem kX3_write : am_chk cX3_write tX3_write = true := am_chk_c kX3_write_0 (am_chk_c kX3_write_1 (am_chk_c kX3_write_2 (am_chk_c kX3_write_3 (am_chk_c kX3_write_4 (am_chk_c kX3_write_5 (am_chk_c kX3_write_6 (am_chk_c kX3_write_7 (am_chk_c kX3_write_8 (am_chk_c kX3_write_9 (am_chk_c kX3_write_10 (am_chk_c kX3_write_11 (am_chk_c kX3_write_12 (am_chk_c kX3_write_13 (am_chk_c kX3_write_14 (am_chk_c kX3_write_15 (am_chk_c kX3_write_16 (am_chk_c kX3_write_17 (am_chk_c kX3_write_18 (am_chk_c kX3_write_19 (am_chk_c kX3_write_20 (am_chk_c kX3_write_21 (rfl))))))))))))))))))))))
def tX3_marked_0 : List am_En := [(0, .aload_n 0, 1, []), (1, .getfield 30, 4, []), (4, .getfield 143, 7, []), (7, .istore 6, 9, []), (9, .aload_n 0, 10, []), (10, .getfield 30, 13, []), (13, .iconst 1, 14, []), (14, .invokevirtual 122, 17, [])]
theorem kX3_marked_0 : tX3_marked_0.all (am_okE cX3_marked) = true := by decide +kernel
def tX3_marked_1 : List am_En := [(17, .aload_n 0, 18, []), (18, .getfield 30, 21, []), (21, .iload 4, 23, []), (23, .invokevirtual 122, 26, []), (26, .aload_n 0, 27, []), (27, .getfield 30, 30, []), (30, .iconst 1, 31, []), (31, .invokevirtual 122, 34, [])]
theorem kX3_marked_1 : tX3_marked_1.all (am_okE cX3_marked) = true := by decide +kernel
def tX3_marked_2 : List am_En := [(34, .aload_n 0, 35, []), (35, .getfield 30, 38, []), (38, .iload 4, 40, []), (40, .iconst 1, 41, []), (41, .iadd, 42, []), (42, .invokevirtual 122, 45, []), (45, .aload_n 0, 46, []), (46, .getfield 30, 49, [])]
theorem kX3_marked_2 : tX3_marked_2.all (am_okE cX3_marked) = true := by decide +kernel
def tX3_marked_3 : List am_En := [(49, .bipush 16, 51, []), (51, .iload 5, 53, []), (53, .iadd, 54, []), (54, .invokevirtual 122, 57, []), (57, .aload_n 0, 58, []), (58, .getfield 30, 61, []), (61, .aload_n 0, 62, []), (62, .getfield 30, 65, [])]
theorem kX3_marked_3 : tX3_marked_3.all (am_okE cX3_marked) = true := by decide +kernel
def tX3_marked_4 : List am_En := [(65, .aload_n 0, 66, []), (66, .getfield 30, 69, []), (69, .iload_n 2, 70, []), (70, .iload 6, 72, []), (72, .invokevirtual 177, 75, []), (75, .iload 4, 77, []), (77, .iconst 1, 78, []), (78, .iadd, 79, []), (79, .invokevirtual 198, 82, [])]
theorem kX3_marked_4 : tX3_marked_4.all (am_okE cX3_marked) = true := by decide +kernel
def tX3_marked_5 : List am_En := [(82, .invokevirtual 107, 85, []), (85, .istore 7, 87, []), (87, .aload_n 1, 88, []), (88, .aload_n 0, 89, []), (89, .getfield 30, 92, []), (92, .iconst 4, 93, []), (93, .aload_n 1, 94, []), (94, .getfield 52, 97, [])]
theorem kX3_marked_5 : tX3_marked_5.all (am_okE cX3_marked) = true := by decide +kernel
def tX3_marked_6 : List am_En := [(97, .iload 7, 99, []), (99, .iload_n 3, 100, []), (100, .iload 4, 102, []), (102, .iconst 1, 103, []), (103, .iadd, 104, []), (104, .iconst 0, 105, []), (105, .invokevirtual 129, 108, []), (108, .putfield 52, 111, []), (111, .aload_n 1, 112, [])]
theorem kX3_marked_6 : tX3_marked_6.all (am_okE cX3_marked) = true := by decide +kernel
def tX3_marked_7 : List am_En := [(112, .dup, 113, []), (113, .getfield 46, 116, []), (116, .iconst 1, 117, []), (117, .iadd, 118, []), (118, .putfield 46, 121, []), (121, .return_, 122, [])]
theorem kX3_marked_7 : tX3_marked_7.all (am_okE cX3_marked) = true := by decide +kernel
def tX3_marked : List (List am_En) := [tX3_marked_0, tX3_marked_1, tX3_marked_2, tX3_marked_3, tX3_marked_4, tX3_marked_5, tX3_marked_6, tX3_marked_7]
def mX3_marked : am_MR := (yX3_marked, cX3_marked, 8, none, 3, 5, (0, 0), tX3_marked)
theorem kX3_marked : am_chk cX3_marked tX3_marked = true := am_chk_c kX3_marked_0 (am_chk_c kX3_marked_1 (am_chk_c kX3_marked_2 (am_chk_c kX3_marked_3 (am_chk_c kX3_marked_4 (am_chk_c kX3_marked_5 (am_chk_c kX3_marked_6 (am_chk_c kX3_marked_7 (rfl))))))))
def tX3_only_0 : List am_En := [(0, .aload_n 0, 1, []), (1, .getfield 30, 4, []), (4, .iconst 0, 5, []), (5, .aload_n 3, 6, []), (6, .getfield 46, 9, []), (9, .invokevirtual 116, 12, []), (12, .istore 4, 14, []), (14, .iconst 0, 15, []), (15, .istore 5, 17, [])]
theorem kX3_only_0 : tX3_only_0.all (am_okE cX3_only) = true := by decide +kernel
def tX3_only_1 : List am_En := [(17, .iload 5, 19, []), (19, .aload_n 0, 20, []), (20, .getfield 26, 23, []), (23, .getfield 119, 26, []), (26, .iload_n 1, 27, []), (27, .baload, 28, []), (28, .if_icmp .ge 38, 31, [66]), (31, .aload_n 0, 32, [])]
theorem kX3_only_1 : tX3_only_1.all (am_okE cX3_only) = true := by decide +kernel
def tX3_only_2 : List am_En := [(32, .getfield 30, 35, []), (35, .aload_n 3, 36, []), (36, .getfield 46, 39, []), (39, .aload_n 0, 40, []), (40, .getfield 26, 43, []), (43, .getfield 79, 46, []), (46, .iload_n 1, 47, []), (47, .iaload, 48, [])]
theorem kX3_only_2 : tX3_only_2.all (am_okE cX3_only) = true := by decide +kernel
def tX3_only_3 : List am_En := [(48, .iconst 4, 49, []), (49, .iload 5, 51, []), (51, .imul, 52, []), (52, .ishr, 53, []), (53, .bipush 15, 55, []), (55, .iand, 56, []), (56, .iadd, 57, []), (57, .invokevirtual 122, 60, []), (60, .iinc 5 1, 63, []), (63, .goto (-46), 66, [17])]
theorem kX3_only_3 : tX3_only_3.all (am_okE cX3_only) = true := by decide +kernel
def tX3_only_4 : List am_En := [(66, .aload_n 0, 67, []), (67, .getfield 30, 70, []), (70, .iload_n 2, 71, []), (71, .iload 4, 73, []), (73, .aload_n 3, 74, []), (74, .getfield 46, 77, []), (77, .aload_n 0, 78, []), (78, .getfield 26, 81, [])]
theorem kX3_only_4 : tX3_only_4.all (am_okE cX3_only) = true := by decide +kernel
def tX3_only_5 : List am_En := [(81, .getfield 119, 84, []), (84, .iload_n 1, 85, []), (85, .baload, 86, []), (86, .iadd, 87, []), (87, .invokevirtual 126, 90, []), (90, .ireturn, 91, [])]
theorem kX3_only_5 : tX3_only_5.all (am_okE cX3_only) = true := by decide +kernel
def tX3_only : List (List am_En) := [tX3_only_0, tX3_only_1, tX3_only_2, tX3_only_3, tX3_only_4, tX3_only_5]
def mX3_only : am_MR := (yX3_only, cX3_only, 6, (some .int), 3, 3, (0, 0), tX3_only)
theorem kX3_only : am_chk cX3_only tX3_only = true := am_chk_c kX3_only_0 (am_chk_c kX3_only_1 (am_chk_c kX3_only_2 (am_chk_c kX3_only_3 (am_chk_c kX3_only_4 (am_chk_c kX3_only_5 (rfl))))))
def tX3_pairs_0 : List am_En := [(0, .aload_n 0, 1, []), (1, .iload_n 1, 2, []), (2, .aload_n 3, 3, []), (3, .invokevirtual 55, 6, []), (6, .istore 4, 8, []), (8, .aload_n 0, 9, []), (9, .getfield 26, 12, []), (12, .getfield 68, 15, []), (15, .iload_n 2, 16, [])]
theorem kX3_pairs_0 : tX3_pairs_0.all (am_okE cX3_pairs) = true := by decide +kernel
def tX3_pairs_1 : List am_En := [(16, .iaload, 17, []), (17, .ifCond .ne 22, 20, [39]), (20, .aload_n 0, 21, []), (21, .getfield 30, 24, []), (24, .iload 4, 26, []), (26, .aload_n 0, 27, []), (27, .iload_n 2, 28, []), (28, .aload_n 0, 29, []), (29, .getfield 12, 32, [])]
theorem kX3_pairs_1 : tX3_pairs_1.all (am_okE cX3_pairs) = true := by decide +kernel
def tX3_pairs_2 : List am_En := [(32, .invokevirtual 55, 35, []), (35, .invokevirtual 71, 38, []), (38, .ireturn, 39, []), (39, .aload_n 0, 40, []), (40, .iload_n 2, 41, []), (41, .aload_n 3, 42, []), (42, .invokevirtual 55, 45, []), (45, .istore 5, 47, []), (47, .aload_n 0, 48, [])]
theorem kX3_pairs_2 : tX3_pairs_2.all (am_okE cX3_pairs) = true := by decide +kernel
def tX3_pairs_3 : List am_En := [(48, .getfield 30, 51, []), (51, .iconst 0, 52, []), (52, .iload 4, 54, []), (54, .iload 5, 56, []), (56, .aload_n 0, 57, []), (57, .getfield 30, 60, []), (60, .iconst 0, 61, []), (61, .aload_n 3, 62, []), (62, .getfield 46, 65, [])]
theorem kX3_pairs_3 : tX3_pairs_3.all (am_okE cX3_pairs) = true := by decide +kernel
def tX3_pairs_4 : List am_En := [(65, .invokevirtual 116, 68, []), (68, .aload_n 3, 69, []), (69, .getfield 46, 72, []), (72, .iconst 0, 73, []), (73, .invokevirtual 129, 76, []), (76, .ireturn, 77, [])]
theorem kX3_pairs_4 : tX3_pairs_4.all (am_okE cX3_pairs) = true := by decide +kernel
def tX3_pairs : List (List am_En) := [tX3_pairs_0, tX3_pairs_1, tX3_pairs_2, tX3_pairs_3, tX3_pairs_4]
def mX3_pairs : am_MR := (yX3_pairs, cX3_pairs, 6, (some .int), 3, 3, (0, 0), tX3_pairs)
theorem kX3_pairs : am_chk cX3_pairs tX3_pairs = true := am_chk_c kX3_pairs_0 (am_chk_c kX3_pairs_1 (am_chk_c kX3_pairs_2 (am_chk_c kX3_pairs_3 (am_chk_c kX3_pairs_4 (rfl)))))
def tX3_apply_0 : List am_En := [(0, .aload_n 0, 1, []), (1, .aload_n 0, 2, []), (2, .iload_n 2, 3, []), (3, .aload 4, 5, []), (5, .invokevirtual 55, 8, []), (8, .aload 4, 10, []), (10, .aload_n 0, 11, []), (11, .getfield 26, 14, []), (14, .getfield 156, 17, [])]
theorem kX3_apply_0 : tX3_apply_0.all (am_okE cX3_apply) = true := by decide +kernel
def tX3_apply_1 : List am_En := [(17, .iload_n 2, 18, []), (18, .baload, 19, []), (19, .invokevirtual 159, 22, []), (22, .astore 5, 24, []), (24, .aload_n 0, 25, []), (25, .iload_n 3, 26, []), (26, .aload 5, 28, []), (28, .invokevirtual 163, 31, []), (31, .astore 6, 33, [])]
theorem kX3_apply_1 : tX3_apply_1.all (am_okE cX3_apply) = true := by decide +kernel
def tX3_apply_2 : List am_En := [(33, .aload_n 0, 34, []), (34, .iload_n 3, 35, []), (35, .aload 6, 37, []), (37, .invokevirtual 55, 40, []), (40, .istore 7, 42, []), (42, .aload_n 0, 43, []), (43, .getfield 30, 46, []), (46, .iload_n 1, 47, []), (47, .aload 5, 49, [])]
theorem kX3_apply_2 : tX3_apply_2.all (am_okE cX3_apply) = true := by decide +kernel
def tX3_apply_3 : List am_En := [(49, .getfield 52, 52, []), (52, .iload 7, 54, []), (54, .aload 6, 56, []), (56, .getfield 153, 59, []), (59, .aload 6, 61, []), (61, .getfield 46, 64, [])]
theorem kX3_apply_3 : tX3_apply_3.all (am_okE cX3_apply) = true := by decide +kernel
def tX3_apply_4 : List am_En := [(64, .ldc 149, 66, []), (66, .invokevirtual 129, 69, []), (69, .istore 8, 71, []), (71, .aload_n 0, 72, []), (72, .dup, 73, []), (73, .getfield 39, 76, []), (76, .iconst 2, 77, []), (77, .isub, 78, []), (78, .putfield 39, 81, [])]
theorem kX3_apply_4 : tX3_apply_4.all (am_okE cX3_apply) = true := by decide +kernel
def tX3_apply_5 : List am_En := [(81, .iload 8, 83, []), (83, .ireturn, 84, [])]
theorem kX3_apply_5 : tX3_apply_5.all (am_okE cX3_apply) = true := by decide +kernel
def tX3_apply : List (List am_En) := [tX3_apply_0, tX3_apply_1, tX3_apply_2, tX3_apply_3, tX3_apply_4, tX3_apply_5]
def mX3_apply : am_MR := (yX3_apply, cX3_apply, 9, (some .int), 3, 4, (0, 0), tX3_apply)
theorem kX3_apply : am_chk cX3_apply tX3_apply = true := am_chk_c kX3_apply_0 (am_chk_c kX3_apply_1 (am_chk_c kX3_apply_2 (am_chk_c kX3_apply_3 (am_chk_c kX3_apply_4 (am_chk_c kX3_apply_5 (rfl))))))
def tX3_groups_0 : List am_En := [(0, .aload_n 0, 1, []), (1, .getfield 30, 4, []), (4, .iconst 0, 5, []), (5, .aload_n 3, 6, []), (6, .getfield 46, 9, []), (9, .invokevirtual 116, 12, []), (12, .istore 4, 14, []), (14, .aload_n 3, 15, []), (15, .getfield 46, 18, [])]
theorem kX3_groups_0 : tX3_groups_0.all (am_okE cX3_groups) = true := by decide +kernel
def tX3_groups_1 : List am_En := [(18, .istore 5, 20, []), (20, .iconst 0, 21, []), (21, .istore 6, 23, []), (23, .iload 6, 25, []), (25, .bipush 8, 27, []), (27, .if_icmp .ge 44, 30, [71]), (30, .aload_n 0, 31, []), (31, .getfield 26, 34, [])]
theorem kX3_groups_1 : tX3_groups_1.all (am_okE cX3_groups) = true := by decide +kernel
def tX3_groups_2 : List am_En := [(34, .getfield 79, 37, []), (37, .iload_n 1, 38, []), (38, .iaload, 39, []), (39, .iload 6, 41, []), (41, .ishr, 42, []), (42, .iconst 1, 43, []), (43, .iand, 44, []), (44, .iconst 1, 45, []), (45, .if_icmp .ne 20, 48, [65])]
theorem kX3_groups_2 : tX3_groups_2.all (am_okE cX3_groups) = true := by decide +kernel
def tX3_groups_3 : List am_En := [(48, .aload_n 0, 49, []), (49, .getfield 30, 52, []), (52, .aload_n 3, 53, []), (53, .getfield 46, 56, []), (56, .iload 6, 58, []), (58, .iadd, 59, []), (59, .invokevirtual 122, 62, []), (62, .iinc 5 1, 65, [])]
theorem kX3_groups_3 : tX3_groups_3.all (am_okE cX3_groups) = true := by decide +kernel
def tX3_groups_4 : List am_En := [(65, .iinc 6 1, 68, []), (68, .goto (-45), 71, [23]), (71, .aload_n 0, 72, []), (72, .iload_n 2, 73, []), (73, .iload 4, 75, []), (75, .iload 5, 77, []), (77, .aload_n 0, 78, []), (78, .getfield 26, 81, [])]
theorem kX3_groups_4 : tX3_groups_4.all (am_okE cX3_groups) = true := by decide +kernel
def tX3_groups_5 : List am_En := [(81, .getfield 97, 84, []), (84, .iload_n 1, 85, []), (85, .baload, 86, []), (86, .aload_n 3, 87, []), (87, .getfield 46, 90, []), (90, .aload_n 0, 91, []), (91, .getfield 26, 94, []), (94, .getfield 119, 97, [])]
theorem kX3_groups_5 : tX3_groups_5.all (am_okE cX3_groups) = true := by decide +kernel
def tX3_groups_6 : List am_En := [(97, .iload_n 1, 98, []), (98, .baload, 99, []), (99, .iadd, 100, []), (100, .invokevirtual 133, 103, []), (103, .istore 6, 105, []), (105, .iload 5, 107, []), (107, .aload_n 3, 108, []), (108, .getfield 46, 111, []), (111, .if_icmp .le 6, 114, [117])]
theorem kX3_groups_6 : tX3_groups_6.all (am_okE cX3_groups) = true := by decide +kernel
def tX3_groups_7 : List am_En := [(114, .iload 6, 116, []), (116, .ireturn, 117, []), (117, .aload_n 0, 118, []), (118, .getfield 30, 121, []), (121, .iconst 1, 122, []), (122, .aload_n 3, 123, []), (123, .getfield 52, 126, []), (126, .iload 6, 128, [])]
theorem kX3_groups_7 : tX3_groups_7.all (am_okE cX3_groups) = true := by decide +kernel
def tX3_groups_8 : List am_En := [(128, .aload_n 0, 129, []), (129, .getfield 30, 132, []), (132, .iconst 0, 133, []), (133, .aload_n 3, 134, []), (134, .getfield 46, 137, []), (137, .invokevirtual 116, 140, []), (140, .aload_n 3, 141, []), (141, .getfield 46, 144, [])]
theorem kX3_groups_8 : tX3_groups_8.all (am_okE cX3_groups) = true := by decide +kernel
def tX3_groups_9 : List am_En := [(144, .aload_n 0, 145, []), (145, .getfield 26, 148, []), (148, .getfield 97, 151, []), (151, .iload_n 1, 152, []), (152, .baload, 153, []), (153, .invokestatic 137, 156, []), (156, .invokevirtual 129, 159, []), (159, .ireturn, 160, [])]
theorem kX3_groups_9 : tX3_groups_9.all (am_okE cX3_groups) = true := by decide +kernel
def tX3_groups : List (List am_En) := [tX3_groups_0, tX3_groups_1, tX3_groups_2, tX3_groups_3, tX3_groups_4, tX3_groups_5, tX3_groups_6, tX3_groups_7, tX3_groups_8, tX3_groups_9]
def mX3_groups : am_MR := (yX3_groups, cX3_groups, 7, (some .int), 3, 3, (0, 0), tX3_groups)
theorem kX3_groups : am_chk cX3_groups tX3_groups = true := am_chk_c kX3_groups_0 (am_chk_c kX3_groups_1 (am_chk_c kX3_groups_2 (am_chk_c kX3_groups_3 (am_chk_c kX3_groups_4 (am_chk_c kX3_groups_5 (am_chk_c kX3_groups_6 (am_chk_c kX3_groups_7 (am_chk_c kX3_groups_8 (am_chk_c kX3_groups_9 (rfl))))))))))
def tX4_init_0 : List am_En := [(0, .aload_n 0, 1, []), (1, .invokespecial 3, 4, []), (4, .aload_n 0, 5, []), (5, .bipush 32, 7, []), (7, .newarray .int, 9, []), (9, .putfield 9, 12, []), (12, .return_, 13, [])]
theorem kX4_init_0 : tX4_init_0.all (am_okE cX4_init) = true := by decide +kernel
def tX4_init : List (List am_En) := [tX4_init_0]
def mX4_init : am_MR := (yX4_init, cX4_init, 1, none, 4, 0, (1, 32), tX4_init)
theorem kX4_init : am_chk cX4_init tX4_init = true := am_chk_c kX4_init_0 (rfl)
def tX5_init_0 : List am_En := [(0, .aload_n 0, 1, []), (1, .invokespecial 3, 4, []), (4, .aload_n 0, 5, []), (5, .new 9, 8, []), (8, .dup, 9, []), (9, .invokespecial 11, 12, []), (12, .putfield 12, 15, []), (15, .aload_n 0, 16, [])]
theorem kX5_init_0 : tX5_init_0.all (am_okE cX5_init) = true := by decide +kernel
def tX5_init_1 : List am_En := [(16, .new 18, 19, []), (19, .dup, 20, []), (20, .invokespecial 20, 23, []), (23, .putfield 21, 26, []), (26, .aload_n 0, 27, []), (27, .ldc 25, 29, []), (29, .newarray .int, 31, []), (31, .putfield 26, 34, [])]
theorem kX5_init_1 : tX5_init_1.all (am_okE cX5_init) = true := by decide +kernel
def tX5_init_2 : List am_En := [(34, .aload_n 0, 35, []), (35, .ldc 32, 37, []), (37, .newarray .int, 39, []), (39, .putfield 33, 42, []), (42, .aload_n 0, 43, []), (43, .ldc 32, 45, []), (45, .newarray .int, 47, []), (47, .putfield 36, 50, [])]
theorem kX5_init_2 : tX5_init_2.all (am_okE cX5_init) = true := by decide +kernel
def tX5_init_3 : List am_En := [(50, .aload_n 0, 51, []), (51, .ldc 32, 53, []), (53, .newarray .int, 55, []), (55, .putfield 39, 58, []), (58, .aload_n 0, 59, []), (59, .ldc 32, 61, []), (61, .newarray .int, 63, []), (63, .putfield 42, 66, [])]
theorem kX5_init_3 : tX5_init_3.all (am_okE cX5_init) = true := by decide +kernel
def tX5_init_4 : List am_En := [(66, .aload_n 0, 67, []), (67, .ldc 32, 69, []), (69, .newarray .int, 71, []), (71, .putfield 45, 74, []), (74, .aload_n 0, 75, []), (75, .sipush 256, 78, []), (78, .newarray .int, 80, [])]
theorem kX5_init_4 : tX5_init_4.all (am_okE cX5_init) = true := by decide +kernel
def tX5_init_5 : List am_En := [(80, .putfield 48, 83, []), (83, .aload_n 0, 84, []), (84, .sipush 8192, 87, []), (87, .newarray .int, 89, []), (89, .putfield 51, 92, []), (92, .aload_n 0, 93, []), (93, .sipush 8192, 96, [])]
theorem kX5_init_5 : tX5_init_5.all (am_okE cX5_init) = true := by decide +kernel
def tX5_init_6 : List am_En := [(96, .newarray .int, 98, []), (98, .putfield 54, 101, []), (101, .aload_n 0, 102, []), (102, .sipush 8192, 105, []), (105, .newarray .int, 107, []), (107, .putfield 57, 110, []), (110, .aload_n 0, 111, []), (111, .sipush 8192, 114, [])]
theorem kX5_init_6 : tX5_init_6.all (am_okE cX5_init) = true := by decide +kernel
def tX5_init_7 : List am_En := [(114, .newarray .boolean, 116, []), (116, .putfield 60, 119, []), (119, .aload_n 0, 120, []), (120, .aload_n 1, 121, []), (121, .putfield 64, 124, []), (124, .aload_n 0, 125, []), (125, .aload_n 2, 126, []), (126, .putfield 68, 129, [])]
theorem kX5_init_7 : tX5_init_7.all (am_okE cX5_init) = true := by decide +kernel
def tX5_init_8 : List am_En := [(129, .iconst 0, 130, []), (130, .istore_n 3, 131, []), (131, .iload_n 3, 132, []), (132, .aload_n 0, 133, []), (133, .getfield 48, 136, []), (136, .arraylength, 137, []), (137, .if_icmp .ge 16, 140, [153]), (140, .aload_n 0, 141, []), (141, .getfield 48, 144, [])]
theorem kX5_init_8 : tX5_init_8.all (am_okE cX5_init) = true := by decide +kernel
def tX5_init_9 : List am_En := [(144, .iload_n 3, 145, []), (145, .iload_n 3, 146, []), (146, .iastore, 147, []), (147, .iinc 3 1, 150, []), (150, .goto (-19), 153, [131]), (153, .return_, 154, [])]
theorem kX5_init_9 : tX5_init_9.all (am_okE cX5_init) = true := by decide +kernel
def tX5_init : List (List am_En) := [tX5_init_0, tX5_init_1, tX5_init_2, tX5_init_3, tX5_init_4, tX5_init_5, tX5_init_6, tX5_init_7, tX5_init_8, tX5_init_9]
def mX5_init : am_MR := (yX5_init, cX5_init, 4, none, 5, 2, (20, 842190), tX5_init)
theorem kX5_init : am_chk cX5_init tX5_init = true := am_chk_c kX5_init_0 (am_chk_c kX5_init_1 (am_chk_c kX5_init_2 (am_chk_c kX5_init_3 (am_chk_c kX5_init_4 (am_chk_c kX5_init_5 (am_chk_c kX5_init_6 (am_chk_c kX5_init_7 (am_chk_c kX5_init_8 (am_chk_c kX5_init_9 (rfl))))))))))
def tX5_run_0 : List am_En := [(0, .aload_n 0, 1, []), (1, .iconst 0, 2, []), (2, .putfield 72, 5, []), (5, .aload_n 0, 6, []), (6, .iconst 0, 7, []), (7, .putfield 76, 10, []), (10, .iconst 0, 11, []), (11, .istore_n 2, 12, []), (12, .iload_n 2, 13, []), (13, .aload_n 0, 14, []), (14, .getfield 68, 17, [])]
theorem kX5_run_0 : tX5_run_0.all (am_okE cX5_run) = true := by decide +kernel
def tX5_run_1 : List am_En := [(17, .getfield 79, 20, []), (20, .if_icmp .ge 44, 23, [64]), (23, .aload_n 0, 24, []), (24, .getfield 42, 27, []), (27, .iload_n 2, 28, []), (28, .iload_n 2, 29, []), (29, .iastore, 30, []), (30, .aload_n 0, 31, []), (31, .aload_n 0, 32, [])]
theorem kX5_run_1 : tX5_run_1.all (am_okE cX5_run) = true := by decide +kernel
def tX5_run_2 : List am_En := [(32, .getfield 68, 35, []), (35, .getfield 82, 38, []), (38, .iload_n 2, 39, []), (39, .iaload, 40, []), (40, .iload_n 2, 41, []), (41, .invokevirtual 85, 44, []), (44, .aload_n 0, 45, []), (45, .aload_n 0, 46, []), (46, .getfield 68, 49, [])]
theorem kX5_run_2 : tX5_run_2.all (am_okE cX5_run) = true := by decide +kernel
def tX5_run_3 : List am_En := [(49, .getfield 89, 52, []), (52, .iload_n 2, 53, []), (53, .iaload, 54, []), (54, .iload_n 2, 55, []), (55, .invokevirtual 85, 58, []), (58, .iinc 2 1, 61, []), (61, .goto (-49), 64, [12])]
theorem kX5_run_3 : tX5_run_3.all (am_okE cX5_run) = true := by decide +kernel
def tX5_run_4 : List am_En := [(64, .aload_n 0, 65, []), (65, .getfield 42, 68, []), (68, .iload_n 1, 69, []), (69, .aload_n 0, 70, []), (70, .getfield 68, 73, []), (73, .getfield 79, 76, []), (76, .iastore, 77, []), (77, .iconst 0, 78, []), (78, .istore_n 2, 79, []), (79, .iload_n 2, 80, [])]
theorem kX5_run_4 : tX5_run_4.all (am_okE cX5_run) = true := by decide +kernel
def tX5_run_5 : List am_En := [(80, .aload_n 0, 81, []), (81, .getfield 68, 84, []), (84, .getfield 79, 87, []), (87, .if_icmp .ge 53, 90, [140]), (90, .aload_n 0, 91, []), (91, .getfield 33, 94, []), (94, .iload_n 2, 95, []), (95, .aload_n 0, 96, [])]
theorem kX5_run_5 : tX5_run_5.all (am_okE cX5_run) = true := by decide +kernel
def tX5_run_6 : List am_En := [(96, .getfield 72, 99, []), (99, .iastore, 100, []), (100, .aload_n 0, 101, []), (101, .getfield 36, 104, []), (104, .iload_n 2, 105, []), (105, .iconst 0, 106, []), (106, .iastore, 107, []), (107, .aload_n 0, 108, []), (108, .iload_n 2, 109, []), (109, .invokevirtual 92, 112, [])]
theorem kX5_run_6 : tX5_run_6.all (am_okE cX5_run) = true := by decide +kernel
def tX5_run_7 : List am_En := [(112, .aload_n 0, 113, []), (113, .getfield 45, 116, []), (116, .aload_n 0, 117, []), (117, .dup, 118, []), (118, .getfield 76, 121, []), (121, .dup_x1, 122, []), (122, .iconst 1, 123, []), (123, .iadd, 124, []), (124, .putfield 76, 127, []), (127, .iload_n 2, 128, [])]
theorem kX5_run_7 : tX5_run_7.all (am_okE cX5_run) = true := by decide +kernel
def tX5_run_8 : List am_En := [(128, .iastore, 129, []), (129, .aload_n 0, 130, []), (130, .iload_n 2, 131, []), (131, .invokevirtual 96, 134, []), (134, .iinc 2 1, 137, []), (137, .goto (-58), 140, [79]), (140, .return_, 141, [])]
theorem kX5_run_8 : tX5_run_8.all (am_okE cX5_run) = true := by decide +kernel
def tX5_run : List (List am_En) := [tX5_run_0, tX5_run_1, tX5_run_2, tX5_run_3, tX5_run_4, tX5_run_5, tX5_run_6, tX5_run_7, tX5_run_8]
def mX5_run : am_MR := (yX5_run, cX5_run, 3, none, 5, 1, (0, 0), tX5_run)
theorem kX5_run : am_chk cX5_run tX5_run = true := am_chk_c kX5_run_0 (am_chk_c kX5_run_1 (am_chk_c kX5_run_2 (am_chk_c kX5_run_3 (am_chk_c kX5_run_4 (am_chk_c kX5_run_5 (am_chk_c kX5_run_6 (am_chk_c kX5_run_7 (am_chk_c kX5_run_8 (rfl)))))))))
def tX5_need_0 : List am_En := [(0, .iload_n 1, 1, []), (1, .ifCond .lt 10, 4, [11]), (4, .aload_n 0, 5, []), (5, .getfield 42, 8, []), (8, .iload_n 1, 9, []), (9, .iload_n 2, 10, []), (10, .iastore, 11, []), (11, .return_, 12, [])]
theorem kX5_need_0 : tX5_need_0.all (am_okE cX5_need) = true := by decide +kernel
def tX5_need : List (List am_En) := [tX5_need_0]
def mX5_need : am_MR := (yX5_need, cX5_need, 3, none, 5, 2, (0, 0), tX5_need)
theorem kX5_need : am_chk cX5_need tX5_need = true := am_chk_c kX5_need_0 (rfl)
def tX5_step_0 : List am_En := [(0, .aload_n 0, 1, []), (1, .getfield 68, 4, []), (4, .getfield 82, 7, []), (7, .iload_n 1, 8, []), (8, .iaload, 9, []), (9, .istore_n 2, 10, []), (10, .aload_n 0, 11, []), (11, .getfield 68, 14, []), (14, .getfield 89, 17, [])]
theorem kX5_step_0 : tX5_step_0.all (am_okE cX5_step) = true := by decide +kernel
def tX5_step_1 : List am_En := [(17, .iload_n 1, 18, []), (18, .iaload, 19, []), (19, .istore_n 3, 20, []), (20, .aload_n 0, 21, []), (21, .getfield 39, 24, []), (24, .iload_n 1, 25, []), (25, .iload_n 2, 26, []), (26, .ifCond .ge 7, 29, [33]), (29, .iconst 0, 30, []), (30, .goto 9, 33, [39])]
theorem kX5_step_1 : tX5_step_1.all (am_okE cX5_step) = true := by decide +kernel
def tX5_step_2 : List am_En := [(33, .aload_n 0, 34, []), (34, .getfield 39, 37, []), (37, .iload_n 2, 38, []), (38, .iaload, 39, []), (39, .iastore, 40, []), (40, .aload_n 0, 41, []), (41, .getfield 68, 44, []), (44, .getfield 105, 47, []), (47, .iload_n 1, 48, [])]
theorem kX5_step_2 : tX5_step_2.all (am_okE cX5_step) = true := by decide +kernel
def tX5_step_3 : List am_En := [(48, .baload, 49, []), (49, .tableswitch 185 0 11 #[63, 73, 95, 105, 114, 123, 132, 142, 157, 157, 167, 176], 112, [234, 112, 122, 144, 154, 163, 172, 181, 191, 206, 206, 216, 225])]
theorem kX5_step_3 : tX5_step_3.all (am_okE cX5_step) = true := by decide +kernel
def tX5_step_4 : List am_En := []
theorem kX5_step_4 : tX5_step_4.all (am_okE cX5_step) = true := by decide +kernel
def tX5_step_5 : List am_En := []
theorem kX5_step_5 : tX5_step_5.all (am_okE cX5_step) = true := by decide +kernel
def tX5_step_6 : List am_En := []
theorem kX5_step_6 : tX5_step_6.all (am_okE cX5_step) = true := by decide +kernel
def tX5_step_7 : List am_En := [(112, .aload_n 0, 113, []), (113, .getfield 36, 116, []), (116, .iload_n 1, 117, []), (117, .iconst 1, 118, []), (118, .iastore, 119, []), (119, .goto 121, 122, [240]), (122, .aload_n 0, 123, []), (123, .iload_n 1, 124, []), (124, .aload_n 0, 125, []), (125, .getfield 64, 128, [])]
theorem kX5_step_7 : tX5_step_7.all (am_okE cX5_step) = true := by decide +kernel
def tX5_step_8 : List am_En := [(128, .aload_n 0, 129, []), (129, .getfield 68, 132, []), (132, .getfield 109, 135, []), (135, .iload_n 1, 136, []), (136, .iaload, 137, []), (137, .aaload, 138, []), (138, .invokevirtual 112, 141, []), (141, .goto 99, 144, [240])]
theorem kX5_step_8 : tX5_step_8.all (am_okE cX5_step) = true := by decide +kernel
def tX5_step_9 : List am_En := [(144, .aload_n 0, 145, []), (145, .iload_n 1, 146, []), (146, .iload_n 2, 147, []), (147, .iload_n 3, 148, []), (148, .invokevirtual 116, 151, []), (151, .goto 89, 154, [240]), (154, .aload_n 0, 155, []), (155, .iload_n 1, 156, []), (156, .iload_n 2, 157, []), (157, .invokevirtual 120, 160, [])]
theorem kX5_step_9 : tX5_step_9.all (am_okE cX5_step) = true := by decide +kernel
def tX5_step_10 : List am_En := [(160, .goto 80, 163, [240]), (163, .aload_n 0, 164, []), (164, .iload_n 1, 165, []), (165, .iload_n 2, 166, []), (166, .invokevirtual 123, 169, []), (169, .goto 71, 172, [240]), (172, .aload_n 0, 173, []), (173, .iload_n 1, 174, []), (174, .iload_n 2, 175, []), (175, .invokevirtual 126, 178, [])]
theorem kX5_step_10 : tX5_step_10.all (am_okE cX5_step) = true := by decide +kernel
def tX5_step_11 : List am_En := [(178, .goto 62, 181, [240]), (181, .aload_n 0, 182, []), (182, .iload_n 1, 183, []), (183, .iload_n 2, 184, []), (184, .iload_n 3, 185, []), (185, .invokevirtual 129, 188, []), (188, .goto 52, 191, [240]), (191, .aload_n 0, 192, [])]
theorem kX5_step_11 : tX5_step_11.all (am_okE cX5_step) = true := by decide +kernel
def tX5_step_12 : List am_En := [(192, .iload_n 1, 193, []), (193, .iload_n 2, 194, []), (194, .invokevirtual 132, 197, []), (197, .aload_n 0, 198, []), (198, .iload_n 1, 199, []), (199, .iload_n 3, 200, []), (200, .invokevirtual 132, 203, []), (203, .goto 37, 206, [240]), (206, .aload_n 0, 207, []), (207, .iload_n 1, 208, [])]
theorem kX5_step_12 : tX5_step_12.all (am_okE cX5_step) = true := by decide +kernel
def tX5_step_13 : List am_En := [(208, .iload_n 2, 209, []), (209, .iload_n 3, 210, []), (210, .invokevirtual 135, 213, []), (213, .goto 27, 216, [240]), (216, .aload_n 0, 217, []), (217, .iload_n 1, 218, []), (218, .iload_n 2, 219, []), (219, .invokevirtual 138, 222, []), (222, .goto 18, 225, [240])]
theorem kX5_step_13 : tX5_step_13.all (am_okE cX5_step) = true := by decide +kernel
def tX5_step_14 : List am_En := [(225, .aload_n 0, 226, []), (226, .iload_n 1, 227, []), (227, .iload_n 2, 228, []), (228, .invokevirtual 141, 231, []), (231, .goto 9, 234, [240]), (234, .aload_n 0, 235, []), (235, .iload_n 1, 236, []), (236, .iload_n 2, 237, []), (237, .invokevirtual 144, 240, [])]
theorem kX5_step_14 : tX5_step_14.all (am_okE cX5_step) = true := by decide +kernel
def tX5_step_15 : List am_En := [(240, .return_, 241, [])]
theorem kX5_step_15 : tX5_step_15.all (am_okE cX5_step) = true := by decide +kernel
def tX5_step : List (List am_En) := [tX5_step_0, tX5_step_1, tX5_step_2, tX5_step_3, tX5_step_4, tX5_step_5, tX5_step_6, tX5_step_7, tX5_step_8, tX5_step_9, tX5_step_10, tX5_step_11, tX5_step_12, tX5_step_13, tX5_step_14, tX5_step_15]
def mX5_step : am_MR := (yX5_step, cX5_step, 4, none, 5, 1, (0, 0), tX5_step)
theorem kX5_step : am_chk cX5_step tX5_step = true := am_chk_c kX5_step_0 (am_chk_c kX5_step_1 (am_chk_c kX5_step_2 (am_chk_c kX5_step_3 (am_chk_c kX5_step_4 (am_chk_c kX5_step_5 (am_chk_c kX5_step_6 (am_chk_c kX5_step_7 (am_chk_c kX5_step_8 (am_chk_c kX5_step_9 (am_chk_c kX5_step_10 (am_chk_c kX5_step_11 (am_chk_c kX5_step_12 (am_chk_c kX5_step_13 (am_chk_c kX5_step_14 (am_chk_c kX5_step_15 (rfl))))))))))))))))
def tX5_lay_0 : List am_En := [(0, .aload_n 0, 1, []), (1, .getfield 39, 4, []), (4, .iload_n 1, 5, []), (5, .aload_n 2, 6, []), (6, .getfield 153, 9, []), (9, .iastore, 10, []), (10, .aload_n 0, 11, []), (11, .getfield 36, 14, []), (14, .iload_n 1, 15, []), (15, .aload_n 2, 16, [])]
theorem kX5_lay_0 : tX5_lay_0.all (am_okE cX5_lay) = true := by decide +kernel
def tX5_lay_1 : List am_En := [(16, .getfield 158, 19, []), (19, .iastore, 20, []), (20, .aload_n 2, 21, []), (21, .getfield 160, 24, []), (24, .iconst 0, 25, []), (25, .aload_n 0, 26, []), (26, .getfield 26, 29, []), (29, .aload_n 0, 30, []), (30, .getfield 72, 33, [])]
theorem kX5_lay_1 : tX5_lay_1.all (am_okE cX5_lay) = true := by decide +kernel
def tX5_lay_2 : List am_En := [(33, .aload_n 2, 34, []), (34, .getfield 158, 37, []), (37, .aload_n 2, 38, []), (38, .getfield 153, 41, []), (41, .imul, 42, []), (42, .invokestatic 99, 45, []), (45, .aload_n 0, 46, []), (46, .dup, 47, []), (47, .getfield 72, 50, [])]
theorem kX5_lay_2 : tX5_lay_2.all (am_okE cX5_lay) = true := by decide +kernel
def tX5_lay_3 : List am_En := [(50, .aload_n 2, 51, []), (51, .getfield 158, 54, []), (54, .aload_n 2, 55, []), (55, .getfield 153, 58, []), (58, .imul, 59, []), (59, .iadd, 60, []), (60, .putfield 72, 63, []), (63, .return_, 64, [])]
theorem kX5_lay_3 : tX5_lay_3.all (am_okE cX5_lay) = true := by decide +kernel
def tX5_lay : List (List am_En) := [tX5_lay_0, tX5_lay_1, tX5_lay_2, tX5_lay_3]
def mX5_lay : am_MR := (yX5_lay, cX5_lay, 3, none, 5, 2, (0, 0), tX5_lay)
theorem kX5_lay : am_chk cX5_lay tX5_lay = true := am_chk_c kX5_lay_0 (am_chk_c kX5_lay_1 (am_chk_c kX5_lay_2 (am_chk_c kX5_lay_3 (rfl))))
def tX5_cross_0 : List am_En := [(0, .aload_n 0, 1, []), (1, .getfield 39, 4, []), (4, .iload_n 1, 5, []), (5, .aload_n 0, 6, []), (6, .getfield 39, 9, []), (9, .iload_n 2, 10, []), (10, .iaload, 11, []), (11, .aload_n 0, 12, []), (12, .getfield 39, 15, []), (15, .iload_n 3, 16, [])]
theorem kX5_cross_0 : tX5_cross_0.all (am_okE cX5_cross) = true := by decide +kernel
def tX5_cross_1 : List am_En := [(16, .iaload, 17, []), (17, .iadd, 18, []), (18, .iastore, 19, []), (19, .iconst 0, 20, []), (20, .istore 4, 22, []), (22, .iload 4, 24, []), (24, .aload_n 0, 25, []), (25, .getfield 36, 28, []), (28, .iload_n 2, 29, []), (29, .iaload, 30, []), (30, .if_icmp .ge 55, 33, [85])]
theorem kX5_cross_1 : tX5_cross_1.all (am_okE cX5_cross) = true := by decide +kernel
def tX5_cross_2 : List am_En := [(33, .iconst 0, 34, []), (34, .istore 5, 36, []), (36, .iload 5, 38, []), (38, .aload_n 0, 39, []), (39, .getfield 36, 42, []), (42, .iload_n 3, 43, []), (43, .iaload, 44, []), (44, .if_icmp .ge 35, 47, [79]), (47, .aload_n 0, 48, [])]
theorem kX5_cross_2 : tX5_cross_2.all (am_okE cX5_cross) = true := by decide +kernel
def tX5_cross_3 : List am_En := [(48, .iload_n 2, 49, []), (49, .iload 4, 51, []), (51, .iconst 0, 52, []), (52, .invokevirtual 150, 55, []), (55, .aload_n 0, 56, []), (56, .iload_n 3, 57, []), (57, .iload 5, 59, []), (59, .iconst 0, 60, []), (60, .invokevirtual 150, 63, []), (63, .aload_n 0, 64, [])]
theorem kX5_cross_3 : tX5_cross_3.all (am_okE cX5_cross) = true := by decide +kernel
def tX5_cross_4 : List am_En := [(64, .getfield 36, 67, []), (67, .iload_n 1, 68, []), (68, .dup2, 69, []), (69, .iaload, 70, []), (70, .iconst 1, 71, []), (71, .iadd, 72, []), (72, .iastore, 73, []), (73, .iinc 5 1, 76, []), (76, .goto (-40), 79, [36]), (79, .iinc 4 1, 82, [])]
theorem kX5_cross_4 : tX5_cross_4.all (am_okE cX5_cross) = true := by decide +kernel
def tX5_cross_5 : List am_En := [(82, .goto (-60), 85, [22]), (85, .return_, 86, [])]
theorem kX5_cross_5 : tX5_cross_5.all (am_okE cX5_cross) = true := by decide +kernel
def tX5_cross : List (List am_En) := [tX5_cross_0, tX5_cross_1, tX5_cross_2, tX5_cross_3, tX5_cross_4, tX5_cross_5]
def mX5_cross : am_MR := (yX5_cross, cX5_cross, 6, none, 5, 3, (0, 0), tX5_cross)
theorem kX5_cross : am_chk cX5_cross tX5_cross = true := am_chk_c kX5_cross_0 (am_chk_c kX5_cross_1 (am_chk_c kX5_cross_2 (am_chk_c kX5_cross_3 (am_chk_c kX5_cross_4 (am_chk_c kX5_cross_5 (rfl))))))
def tX5_copy_0 : List am_En := [(0, .aload_n 0, 1, []), (1, .getfield 39, 4, []), (4, .iload_n 1, 5, []), (5, .iaload, 6, []), (6, .iload_n 3, 7, []), (7, .isub, 8, []), (8, .istore 4, 10, []), (10, .aload_n 0, 11, []), (11, .getfield 26, 14, []), (14, .aload_n 0, 15, []), (15, .iload_n 1, 16, [])]
theorem kX5_copy_0 : tX5_copy_0.all (am_okE cX5_copy) = true := by decide +kernel
def tX5_copy_1 : List am_En := [(16, .iload_n 2, 17, []), (17, .invokevirtual 146, 20, []), (20, .iload_n 3, 21, []), (21, .iadd, 22, []), (22, .aload_n 0, 23, []), (23, .getfield 26, 26, []), (26, .aload_n 0, 27, []), (27, .getfield 72, 30, []), (30, .iload 4, 32, [])]
theorem kX5_copy_1 : tX5_copy_1.all (am_okE cX5_copy) = true := by decide +kernel
def tX5_copy_2 : List am_En := [(32, .invokestatic 99, 35, []), (35, .aload_n 0, 36, []), (36, .dup, 37, []), (37, .getfield 72, 40, []), (40, .iload 4, 42, []), (42, .iadd, 43, []), (43, .putfield 72, 46, []), (46, .return_, 47, [])]
theorem kX5_copy_2 : tX5_copy_2.all (am_okE cX5_copy) = true := by decide +kernel
def tX5_copy : List (List am_En) := [tX5_copy_0, tX5_copy_1, tX5_copy_2]
def mX5_copy : am_MR := (yX5_copy, cX5_copy, 5, none, 5, 3, (0, 0), tX5_copy)
theorem kX5_copy : am_chk cX5_copy tX5_copy = true := am_chk_c kX5_copy_0 (am_chk_c kX5_copy_1 (am_chk_c kX5_copy_2 (rfl)))
def tX5_at_0 : List am_En := [(0, .aload_n 0, 1, []), (1, .getfield 33, 4, []), (4, .iload_n 1, 5, []), (5, .iaload, 6, []), (6, .iload_n 2, 7, []), (7, .aload_n 0, 8, []), (8, .getfield 39, 11, []), (11, .iload_n 1, 12, []), (12, .iaload, 13, []), (13, .imul, 14, []), (14, .iadd, 15, []), (15, .ireturn, 16, [])]
theorem kX5_at_0 : tX5_at_0.all (am_okE cX5_at) = true := by decide +kernel
def tX5_at : List (List am_En) := [tX5_at_0]
def mX5_at : am_MR := (yX5_at, cX5_at, 3, (some .int), 5, 2, (0, 0), tX5_at)
theorem kX5_at : am_chk cX5_at tX5_at = true := am_chk_c kX5_at_0 (rfl)
def tX5_select_0 : List am_En := [(0, .iconst 0, 1, []), (1, .istore_n 3, 2, []), (2, .iload_n 3, 3, []), (3, .aload_n 0, 4, []), (4, .getfield 36, 7, []), (7, .iload_n 2, 8, []), (8, .iaload, 9, []), (9, .if_icmp .ge 37, 12, [46]), (12, .aload_n 0, 13, []), (13, .iload_n 1, 14, []), (14, .iload_n 2, 15, []), (15, .iload_n 3, 16, [])]
theorem kX5_select_0 : tX5_select_0.all (am_okE cX5_select) = true := by decide +kernel
def tX5_select_1 : List am_En := [(16, .invokevirtual 174, 19, []), (19, .iconst 1, 20, []), (20, .if_icmp .ne 20, 23, [40]), (23, .aload_n 0, 24, []), (24, .iload_n 2, 25, []), (25, .iload_n 3, 26, []), (26, .iconst 0, 27, []), (27, .invokevirtual 150, 30, []), (30, .aload_n 0, 31, []), (31, .getfield 36, 34, [])]
theorem kX5_select_1 : tX5_select_1.all (am_okE cX5_select) = true := by decide +kernel
def tX5_select_2 : List am_En := [(34, .iload_n 1, 35, []), (35, .dup2, 36, []), (36, .iaload, 37, []), (37, .iconst 1, 38, []), (38, .iadd, 39, []), (39, .iastore, 40, []), (40, .iinc 3 1, 43, []), (43, .goto (-41), 46, [2]), (46, .return_, 47, [])]
theorem kX5_select_2 : tX5_select_2.all (am_okE cX5_select) = true := by decide +kernel
def tX5_select : List (List am_En) := [tX5_select_0, tX5_select_1, tX5_select_2]
def mX5_select : am_MR := (yX5_select, cX5_select, 4, none, 5, 2, (0, 0), tX5_select)
theorem kX5_select : am_chk cX5_select tX5_select = true := am_chk_c kX5_select_0 (am_chk_c kX5_select_1 (am_chk_c kX5_select_2 (rfl)))
def tX5_reckon_0 : List am_En := [(0, .aload_n 0, 1, []), (1, .getfield 12, 4, []), (4, .aload_n 0, 5, []), (5, .getfield 68, 8, []), (8, .getfield 161, 11, []), (11, .aload_n 0, 12, []), (12, .getfield 68, 15, []), (15, .getfield 164, 18, [])]
theorem kX5_reckon_0 : tX5_reckon_0.all (am_okE cX5_reckon) = true := by decide +kernel
def tX5_reckon_1 : List am_En := [(18, .iload_n 1, 19, []), (19, .iaload, 20, []), (20, .aload_n 0, 21, []), (21, .getfield 68, 24, []), (24, .getfield 167, 27, []), (27, .iload_n 1, 28, []), (28, .iaload, 29, []), (29, .aload_n 0, 30, []), (30, .getfield 26, 33, [])]
theorem kX5_reckon_1 : tX5_reckon_1.all (am_okE cX5_reckon) = true := by decide +kernel
def tX5_reckon_2 : List am_En := [(33, .aload_n 0, 34, []), (34, .iload_n 2, 35, []), (35, .iload_n 3, 36, []), (36, .invokevirtual 146, 39, []), (39, .invokevirtual 170, 42, []), (42, .ireturn, 43, [])]
theorem kX5_reckon_2 : tX5_reckon_2.all (am_okE cX5_reckon) = true := by decide +kernel
def tX5_reckon : List (List am_En) := [tX5_reckon_0, tX5_reckon_1, tX5_reckon_2]
def mX5_reckon : am_MR := (yX5_reckon, cX5_reckon, 4, (some .int), 5, 3, (0, 0), tX5_reckon)
theorem kX5_reckon : am_chk cX5_reckon tX5_reckon = true := am_chk_c kX5_reckon_0 (am_chk_c kX5_reckon_1 (am_chk_c kX5_reckon_2 (rfl)))
def tX5_extend_0 : List am_En := [(0, .aload_n 0, 1, []), (1, .getfield 39, 4, []), (4, .iload_n 1, 5, []), (5, .dup2, 6, []), (6, .iaload, 7, []), (7, .iconst 1, 8, []), (8, .iadd, 9, []), (9, .iastore, 10, []), (10, .iconst 0, 11, []), (11, .istore_n 3, 12, []), (12, .iload_n 3, 13, []), (13, .aload_n 0, 14, []), (14, .getfield 36, 17, [])]
theorem kX5_extend_0 : tX5_extend_0.all (am_okE cX5_extend) = true := by decide +kernel
def tX5_extend_1 : List am_En := [(17, .iload_n 2, 18, []), (18, .iaload, 19, []), (19, .if_icmp .ge 41, 22, [60]), (22, .aload_n 0, 23, []), (23, .iload_n 1, 24, []), (24, .iload_n 2, 25, []), (25, .iload_n 3, 26, []), (26, .invokevirtual 174, 29, []), (29, .istore 4, 31, []), (31, .aload_n 0, 32, [])]
theorem kX5_extend_1 : tX5_extend_1.all (am_okE cX5_extend) = true := by decide +kernel
def tX5_extend_2 : List am_En := [(32, .iload_n 2, 33, []), (33, .iload_n 3, 34, []), (34, .iconst 0, 35, []), (35, .invokevirtual 150, 38, []), (38, .aload_n 0, 39, []), (39, .iload 4, 41, []), (41, .invokevirtual 178, 44, []), (44, .aload_n 0, 45, []), (45, .getfield 36, 48, [])]
theorem kX5_extend_2 : tX5_extend_2.all (am_okE cX5_extend) = true := by decide +kernel
def tX5_extend_3 : List am_En := [(48, .iload_n 1, 49, []), (49, .dup2, 50, []), (50, .iaload, 51, []), (51, .iconst 1, 52, []), (52, .iadd, 53, []), (53, .iastore, 54, []), (54, .iinc 3 1, 57, []), (57, .goto (-45), 60, [12]), (60, .return_, 61, [])]
theorem kX5_extend_3 : tX5_extend_3.all (am_okE cX5_extend) = true := by decide +kernel
def tX5_extend : List (List am_En) := [tX5_extend_0, tX5_extend_1, tX5_extend_2, tX5_extend_3]
def mX5_extend : am_MR := (yX5_extend, cX5_extend, 5, none, 5, 2, (0, 0), tX5_extend)
theorem kX5_extend : am_chk cX5_extend tX5_extend = true := am_chk_c kX5_extend_0 (am_chk_c kX5_extend_1 (am_chk_c kX5_extend_2 (am_chk_c kX5_extend_3 (rfl))))
def tX5_put_0 : List am_En := [(0, .aload_n 0, 1, []), (1, .getfield 26, 4, []), (4, .aload_n 0, 5, []), (5, .dup, 6, []), (6, .getfield 72, 9, []), (9, .dup_x1, 10, []), (10, .iconst 1, 11, []), (11, .iadd, 12, []), (12, .putfield 72, 15, []), (15, .iload_n 1, 16, [])]
theorem kX5_put_0 : tX5_put_0.all (am_okE cX5_put) = true := by decide +kernel
def tX5_put_1 : List am_En := [(16, .iastore, 17, []), (17, .return_, 18, [])]
theorem kX5_put_1 : tX5_put_1.all (am_okE cX5_put) = true := by decide +kernel
def tX5_put : List (List am_En) := [tX5_put_0, tX5_put_1]
def mX5_put : am_MR := (yX5_put, cX5_put, 2, none, 5, 1, (0, 0), tX5_put)
theorem kX5_put : am_chk cX5_put tX5_put = true := am_chk_c kX5_put_0 (am_chk_c kX5_put_1 (rfl))
def tX5_pick_0 : List am_En := [(0, .aload_n 0, 1, []), (1, .getfield 39, 4, []), (4, .iload_n 1, 5, []), (5, .aload_n 0, 6, []), (6, .getfield 68, 9, []), (9, .getfield 167, 12, []), (12, .iload_n 1, 13, []), (13, .iaload, 14, []), (14, .iastore, 15, []), (15, .iconst 0, 16, [])]
theorem kX5_pick_0 : tX5_pick_0.all (am_okE cX5_pick) = true := by decide +kernel
def tX5_pick_1 : List am_En := [(16, .istore_n 3, 17, []), (17, .iload_n 3, 18, []), (18, .aload_n 0, 19, []), (19, .getfield 36, 22, []), (22, .iload_n 2, 23, []), (23, .iaload, 24, []), (24, .if_icmp .ge 82, 27, [106]), (27, .aload_n 0, 28, []), (28, .iload_n 2, 29, []), (29, .iload_n 3, 30, []), (30, .invokevirtual 146, 33, [])]
theorem kX5_pick_1 : tX5_pick_1.all (am_okE cX5_pick) = true := by decide +kernel
def tX5_pick_2 : List am_En := [(33, .istore 4, 35, []), (35, .iconst 0, 36, []), (36, .istore 5, 38, []), (38, .iload 5, 40, []), (40, .aload_n 0, 41, []), (41, .getfield 68, 44, []), (44, .getfield 167, 47, []), (47, .iload_n 1, 48, [])]
theorem kX5_pick_2 : tX5_pick_2.all (am_okE cX5_pick) = true := by decide +kernel
def tX5_pick_3 : List am_En := [(48, .iaload, 49, []), (49, .if_icmp .ge 41, 52, [90]), (52, .aload_n 0, 53, []), (53, .aload_n 0, 54, []), (54, .getfield 26, 57, []), (57, .iload 4, 59, []), (59, .aload_n 0, 60, []), (60, .getfield 68, 63, []), (63, .getfield 161, 66, [])]
theorem kX5_pick_3 : tX5_pick_3.all (am_okE cX5_pick) = true := by decide +kernel
def tX5_pick_4 : List am_En := [(66, .aload_n 0, 67, []), (67, .getfield 68, 70, []), (70, .getfield 164, 73, []), (73, .iload_n 1, 74, []), (74, .iaload, 75, []), (75, .iload 5, 77, []), (77, .iadd, 78, []), (78, .iaload, 79, []), (79, .iadd, 80, [])]
theorem kX5_pick_4 : tX5_pick_4.all (am_okE cX5_pick) = true := by decide +kernel
def tX5_pick_5 : List am_En := [(80, .iaload, 81, []), (81, .invokevirtual 178, 84, []), (84, .iinc 5 1, 87, []), (87, .goto (-49), 90, [38]), (90, .aload_n 0, 91, []), (91, .getfield 36, 94, []), (94, .iload_n 1, 95, []), (95, .dup2, 96, [])]
theorem kX5_pick_5 : tX5_pick_5.all (am_okE cX5_pick) = true := by decide +kernel
def tX5_pick_6 : List am_En := [(96, .iaload, 97, []), (97, .iconst 1, 98, []), (98, .iadd, 99, []), (99, .iastore, 100, []), (100, .iinc 3 1, 103, []), (103, .goto (-86), 106, [17]), (106, .return_, 107, [])]
theorem kX5_pick_6 : tX5_pick_6.all (am_okE cX5_pick) = true := by decide +kernel
def tX5_pick : List (List am_En) := [tX5_pick_0, tX5_pick_1, tX5_pick_2, tX5_pick_3, tX5_pick_4, tX5_pick_5, tX5_pick_6]
def mX5_pick : am_MR := (yX5_pick, cX5_pick, 6, none, 5, 2, (0, 0), tX5_pick)
theorem kX5_pick : am_chk cX5_pick tX5_pick = true := am_chk_c kX5_pick_0 (am_chk_c kX5_pick_1 (am_chk_c kX5_pick_2 (am_chk_c kX5_pick_3 (am_chk_c kX5_pick_4 (am_chk_c kX5_pick_5 (am_chk_c kX5_pick_6 (rfl)))))))
def tX5_join_0 : List am_En := [(0, .aload_n 0, 1, []), (1, .getfield 68, 4, []), (4, .getfield 109, 7, []), (7, .iload_n 1, 8, []), (8, .iaload, 9, []), (9, .istore 4, 11, []), (11, .aload_n 0, 12, []), (12, .getfield 68, 15, []), (15, .getfield 167, 18, [])]
theorem kX5_join_0 : tX5_join_0.all (am_okE cX5_join) = true := by decide +kernel
def tX5_join_1 : List am_En := [(18, .iload_n 1, 19, []), (19, .iaload, 20, []), (20, .istore 5, 22, []), (22, .aload_n 0, 23, []), (23, .getfield 21, 26, []), (26, .aload_n 0, 27, []), (27, .getfield 26, 30, []), (30, .aload_n 0, 31, []), (31, .getfield 33, 34, [])]
theorem kX5_join_1 : tX5_join_1.all (am_okE cX5_join) = true := by decide +kernel
def tX5_join_2 : List am_En := [(34, .iload_n 3, 35, []), (35, .iaload, 36, []), (36, .aload_n 0, 37, []), (37, .getfield 39, 40, []), (40, .iload_n 3, 41, []), (41, .iaload, 42, []), (42, .aload_n 0, 43, []), (43, .getfield 48, 46, []), (46, .iconst 0, 47, []), (47, .iload 5, 49, [])]
theorem kX5_join_2 : tX5_join_2.all (am_okE cX5_join) = true := by decide +kernel
def tX5_join_3 : List am_En := [(49, .invokevirtual 181, 52, []), (52, .iconst 0, 53, []), (53, .istore 6, 55, []), (55, .iload 6, 57, []), (57, .aload_n 0, 58, []), (58, .getfield 36, 61, []), (61, .iload_n 3, 62, []), (62, .iaload, 63, []), (63, .if_icmp .ge 19, 66, [82])]
theorem kX5_join_3 : tX5_join_3.all (am_okE cX5_join) = true := by decide +kernel
def tX5_join_4 : List am_En := [(66, .aload_n 0, 67, []), (67, .getfield 21, 70, []), (70, .iload 6, 72, []), (72, .invokevirtual 185, 75, []), (75, .pop, 76, []), (76, .iinc 6 1, 79, []), (79, .goto (-24), 82, [55])]
theorem kX5_join_4 : tX5_join_4.all (am_okE cX5_join) = true := by decide +kernel
def tX5_join_5 : List am_En := [(82, .iload 4, 84, []), (84, .iconst 1, 85, []), (85, .if_icmp .gt 15, 88, [100]), (88, .aload_n 0, 89, []), (89, .getfield 39, 92, []), (92, .iload_n 3, 93, []), (93, .iaload, 94, []), (94, .iload 5, 96, [])]
theorem kX5_join_5 : tX5_join_5.all (am_okE cX5_join) = true := by decide +kernel
def tX5_join_6 : List am_En := [(96, .isub, 97, []), (97, .goto 14, 100, [111]), (100, .iload 4, 102, []), (102, .iconst 4, 103, []), (103, .if_icmp .ne 7, 106, [110]), (106, .iconst 1, 107, []), (107, .goto 4, 110, [111]), (110, .iconst 0, 111, []), (111, .istore 6, 113, [])]
theorem kX5_join_6 : tX5_join_6.all (am_okE cX5_join) = true := by decide +kernel
def tX5_join_7 : List am_En := [(113, .aload_n 0, 114, []), (114, .getfield 39, 117, []), (117, .iload_n 1, 118, []), (118, .dup2, 119, []), (119, .iaload, 120, []), (120, .iload 6, 122, []), (122, .iadd, 123, []), (123, .iastore, 124, []), (124, .iconst 0, 125, []), (125, .istore 7, 127, []), (127, .iload 7, 129, [])]
theorem kX5_join_7 : tX5_join_7.all (am_okE cX5_join) = true := by decide +kernel
def tX5_join_8 : List am_En := [(129, .aload_n 0, 130, []), (130, .getfield 36, 133, []), (133, .iload_n 2, 134, []), (134, .iaload, 135, []), (135, .if_icmp .ge 218, 138, [353]), (138, .aload_n 0, 139, []), (139, .getfield 21, 142, []), (142, .aload_n 0, 143, []), (143, .getfield 26, 146, [])]
theorem kX5_join_8 : tX5_join_8.all (am_okE cX5_join) = true := by decide +kernel
def tX5_join_9 : List am_En := [(146, .aload_n 0, 147, []), (147, .iload_n 2, 148, []), (148, .iload 7, 150, []), (150, .invokevirtual 146, 153, []), (153, .aload_n 0, 154, []), (154, .getfield 68, 157, []), (157, .getfield 161, 160, [])]
theorem kX5_join_9 : tX5_join_9.all (am_okE cX5_join) = true := by decide +kernel
def tX5_join_10 : List am_En := [(160, .aload_n 0, 161, []), (161, .getfield 68, 164, []), (164, .getfield 164, 167, []), (167, .iload_n 1, 168, []), (168, .iaload, 169, []), (169, .invokevirtual 189, 172, []), (172, .istore 8, 174, []), (174, .iload 4, 176, [])]
theorem kX5_join_10 : tX5_join_10.all (am_okE cX5_join) = true := by decide +kernel
def tX5_join_11 : List am_En := [(176, .iconst 1, 177, []), (177, .if_icmp .gt 70, 180, [247]), (180, .iload 8, 182, []), (182, .ifCond .lt 65, 185, [247]), (185, .aload_n 0, 186, []), (186, .getfield 21, 189, []), (189, .getfield 193, 192, [])]
theorem kX5_join_11 : tX5_join_11.all (am_okE cX5_join) = true := by decide +kernel
def tX5_join_12 : List am_En := [(192, .iload 8, 194, []), (194, .iaload, 195, []), (195, .istore 9, 197, []), (197, .iload 9, 199, []), (199, .ifCond .lt 45, 202, [244]), (202, .aload_n 0, 203, []), (203, .iload_n 2, 204, []), (204, .iload 7, 206, []), (206, .iconst 0, 207, []), (207, .invokevirtual 150, 210, [])]
theorem kX5_join_12 : tX5_join_12.all (am_okE cX5_join) = true := by decide +kernel
def tX5_join_13 : List am_En := [(210, .aload_n 0, 211, []), (211, .iload_n 3, 212, []), (212, .iload 9, 214, []), (214, .iload 5, 216, []), (216, .invokevirtual 150, 219, []), (219, .aload_n 0, 220, []), (220, .getfield 36, 223, []), (223, .iload_n 1, 224, [])]
theorem kX5_join_13 : tX5_join_13.all (am_okE cX5_join) = true := by decide +kernel
def tX5_join_14 : List am_En := [(224, .dup2, 225, []), (225, .iaload, 226, []), (226, .iconst 1, 227, []), (227, .iadd, 228, []), (228, .iastore, 229, []), (229, .aload_n 0, 230, []), (230, .getfield 21, 233, []), (233, .getfield 196, 236, []), (236, .iload 9, 238, []), (238, .iaload, 239, []), (239, .istore 9, 241, [])]
theorem kX5_join_14 : tX5_join_14.all (am_okE cX5_join) = true := by decide +kernel
def tX5_join_15 : List am_En := [(241, .goto (-44), 244, [197]), (244, .goto 103, 247, [347]), (247, .iload 4, 249, []), (249, .iconst 4, 250, []), (250, .if_icmp .eq 31, 253, [281]), (253, .iload 4, 255, []), (255, .iconst 1, 256, [])]
theorem kX5_join_15 : tX5_join_15.all (am_okE cX5_join) = true := by decide +kernel
def tX5_join_16 : List am_En := [(256, .if_icmp .eq 25, 259, [281]), (259, .iload 4, 261, []), (261, .iconst 2, 262, []), (262, .if_icmp .ne 8, 265, [270]), (265, .iload 8, 267, []), (267, .ifCond .ge 14, 270, [281]), (270, .iload 4, 272, [])]
theorem kX5_join_16 : tX5_join_16.all (am_okE cX5_join) = true := by decide +kernel
def tX5_join_17 : List am_En := [(272, .iconst 3, 273, []), (273, .if_icmp .ne 74, 276, [347]), (276, .iload 8, 278, []), (278, .ifCond .ge 69, 281, [347]), (281, .aload_n 0, 282, []), (282, .iload_n 2, 283, []), (283, .iload 7, 285, []), (285, .iconst 0, 286, []), (286, .invokevirtual 150, 289, [])]
theorem kX5_join_17 : tX5_join_17.all (am_okE cX5_join) = true := by decide +kernel
def tX5_join_18 : List am_En := [(289, .iconst 0, 290, []), (290, .istore 9, 292, []), (292, .iload 9, 294, []), (294, .iload 6, 296, []), (296, .if_icmp .ge 41, 299, [337]), (299, .aload_n 0, 300, []), (300, .iload 4, 302, []), (302, .iconst 4, 303, []), (303, .if_icmp .ne 16, 306, [319])]
theorem kX5_join_18 : tX5_join_18.all (am_okE cX5_join) = true := by decide +kernel
def tX5_join_19 : List am_En := [(306, .iload 8, 308, []), (308, .ifCond .lt 7, 311, [315]), (311, .iconst 1, 312, []), (312, .goto 16, 315, [328]), (315, .iconst 0, 316, []), (316, .goto 12, 319, [328]), (319, .aload_n 0, 320, [])]
theorem kX5_join_19 : tX5_join_19.all (am_okE cX5_join) = true := by decide +kernel
def tX5_join_20 : List am_En := [(320, .getfield 68, 323, []), (323, .getfield 197, 326, []), (326, .iload_n 1, 327, []), (327, .iaload, 328, []), (328, .invokevirtual 178, 331, []), (331, .iinc 9 1, 334, []), (334, .goto (-42), 337, [292])]
theorem kX5_join_20 : tX5_join_20.all (am_okE cX5_join) = true := by decide +kernel
def tX5_join_21 : List am_En := [(337, .aload_n 0, 338, []), (338, .getfield 36, 341, []), (341, .iload_n 1, 342, []), (342, .dup2, 343, []), (343, .iaload, 344, []), (344, .iconst 1, 345, []), (345, .iadd, 346, []), (346, .iastore, 347, []), (347, .iinc 7 1, 350, []), (350, .goto (-223), 353, [127])]
theorem kX5_join_21 : tX5_join_21.all (am_okE cX5_join) = true := by decide +kernel
def tX5_join_22 : List am_En := [(353, .return_, 354, [])]
theorem kX5_join_22 : tX5_join_22.all (am_okE cX5_join) = true := by decide +kernel
def tX5_join : List (List am_En) := [tX5_join_0, tX5_join_1, tX5_join_2, tX5_join_3, tX5_join_4, tX5_join_5, tX5_join_6, tX5_join_7, tX5_join_8, tX5_join_9, tX5_join_10, tX5_join_11, tX5_join_12, tX5_join_13, tX5_join_14, tX5_join_15, tX5_join_16, tX5_join_17, tX5_join_18, tX5_join_19, tX5_join_20, tX5_join_21, tX5_join_22]
def mX5_join : am_MR := (yX5_join, cX5_join, 10, none, 5, 3, (0, 0), tX5_join)
theorem kX5_join : am_chk cX5_join tX5_join = true := am_chk_c kX5_join_0 (am_chk_c kX5_join_1 (am_chk_c kX5_join_2 (am_chk_c kX5_join_3 (am_chk_c kX5_join_4 (am_chk_c kX5_join_5 (am_chk_c kX5_join_6 (am_chk_c kX5_join_7 (am_chk_c kX5_join_8 (am_chk_c kX5_join_9 (am_chk_c kX5_join_10 (am_chk_c kX5_join_11 (am_chk_c kX5_join_12 (am_chk_c kX5_join_13 (am_chk_c kX5_join_14 (am_chk_c kX5_join_15 (am_chk_c kX5_join_16 (am_chk_c kX5_join_17 (am_chk_c kX5_join_18 (am_chk_c kX5_join_19 (am_chk_c kX5_join_20 (am_chk_c kX5_join_21 (am_chk_c kX5_join_22 (rfl)))))))))))))))))))))))
def tX5_copyAll_0 : List am_En := [(0, .iconst 0, 1, []), (1, .istore_n 3, 2, []), (2, .iload_n 3, 3, []), (3, .aload_n 0, 4, []), (4, .getfield 36, 7, []), (7, .iload_n 2, 8, []), (8, .iaload, 9, []), (9, .if_icmp .ge 26, 12, [35]), (12, .aload_n 0, 13, []), (13, .iload_n 2, 14, []), (14, .iload_n 3, 15, []), (15, .iconst 0, 16, [])]
theorem kX5_copyAll_0 : tX5_copyAll_0.all (am_okE cX5_copyAll) = true := by decide +kernel
def tX5_copyAll_1 : List am_En := [(16, .invokevirtual 150, 19, []), (19, .aload_n 0, 20, []), (20, .getfield 36, 23, []), (23, .iload_n 1, 24, []), (24, .dup2, 25, []), (25, .iaload, 26, []), (26, .iconst 1, 27, []), (27, .iadd, 28, []), (28, .iastore, 29, []), (29, .iinc 3 1, 32, [])]
theorem kX5_copyAll_1 : tX5_copyAll_1.all (am_okE cX5_copyAll) = true := by decide +kernel
def tX5_copyAll_2 : List am_En := [(32, .goto (-30), 35, [2]), (35, .return_, 36, [])]
theorem kX5_copyAll_2 : tX5_copyAll_2.all (am_okE cX5_copyAll) = true := by decide +kernel
def tX5_copyAll : List (List am_En) := [tX5_copyAll_0, tX5_copyAll_1, tX5_copyAll_2]
def mX5_copyAll : am_MR := (yX5_copyAll, cX5_copyAll, 4, none, 5, 2, (0, 0), tX5_copyAll)
theorem kX5_copyAll : am_chk cX5_copyAll tX5_copyAll = true := am_chk_c kX5_copyAll_0 (am_chk_c kX5_copyAll_1 (am_chk_c kX5_copyAll_2 (rfl)))
def tX5_apart_0 : List am_En := [(0, .aload_n 0, 1, []), (1, .getfield 21, 4, []), (4, .aload_n 0, 5, []), (5, .getfield 26, 8, []), (8, .aload_n 0, 9, []), (9, .getfield 33, 12, []), (12, .iload_n 3, 13, []), (13, .iaload, 14, []), (14, .aload_n 0, 15, []), (15, .getfield 39, 18, [])]
theorem kX5_apart_0 : tX5_apart_0.all (am_okE cX5_apart) = true := by decide +kernel
def tX5_apart_1 : List am_En := [(18, .iload_n 3, 19, []), (19, .iaload, 20, []), (20, .aload_n 0, 21, []), (21, .getfield 48, 24, []), (24, .iconst 0, 25, []), (25, .aload_n 0, 26, []), (26, .getfield 39, 29, []), (29, .iload_n 3, 30, []), (30, .iaload, 31, []), (31, .invokevirtual 181, 34, [])]
theorem kX5_apart_1 : tX5_apart_1.all (am_okE cX5_apart) = true := by decide +kernel
def tX5_apart_2 : List am_En := [(34, .iconst 0, 35, []), (35, .istore 4, 37, []), (37, .iload 4, 39, []), (39, .aload_n 0, 40, []), (40, .getfield 36, 43, []), (43, .iload_n 3, 44, []), (44, .iaload, 45, []), (45, .if_icmp .ge 19, 48, [64])]
theorem kX5_apart_2 : tX5_apart_2.all (am_okE cX5_apart) = true := by decide +kernel
def tX5_apart_3 : List am_En := [(48, .aload_n 0, 49, []), (49, .getfield 21, 52, []), (52, .iload 4, 54, []), (54, .invokevirtual 185, 57, []), (57, .pop, 58, []), (58, .iinc 4 1, 61, []), (61, .goto (-24), 64, [37])]
theorem kX5_apart_3 : tX5_apart_3.all (am_okE cX5_apart) = true := by decide +kernel
def tX5_apart_4 : List am_En := [(64, .iconst 0, 65, []), (65, .istore 4, 67, []), (67, .iload 4, 69, []), (69, .aload_n 0, 70, []), (70, .getfield 36, 73, []), (73, .iload_n 2, 74, []), (74, .iaload, 75, []), (75, .if_icmp .ge 120, 78, [195]), (78, .aload_n 0, 79, []), (79, .getfield 21, 82, [])]
theorem kX5_apart_4 : tX5_apart_4.all (am_okE cX5_apart) = true := by decide +kernel
def tX5_apart_5 : List am_En := [(82, .aload_n 0, 83, []), (83, .getfield 26, 86, []), (86, .aload_n 0, 87, []), (87, .iload_n 2, 88, []), (88, .iload 4, 90, []), (90, .invokevirtual 146, 93, []), (93, .aload_n 0, 94, []), (94, .getfield 48, 97, [])]
theorem kX5_apart_5 : tX5_apart_5.all (am_okE cX5_apart) = true := by decide +kernel
def tX5_apart_6 : List am_En := [(97, .iconst 0, 98, []), (98, .invokevirtual 189, 101, []), (101, .istore 5, 103, []), (103, .iload 5, 105, []), (105, .ifCond .lt 20, 108, [125]), (108, .aload_n 0, 109, []), (109, .getfield 21, 112, [])]
theorem kX5_apart_6 : tX5_apart_6.all (am_okE cX5_apart) = true := by decide +kernel
def tX5_apart_7 : List am_En := [(112, .getfield 200, 115, []), (115, .iload 5, 117, []), (117, .iaload, 118, []), (118, .ifCond .le 7, 121, [125]), (121, .iconst 1, 122, []), (122, .goto 4, 125, [126]), (125, .iconst 0, 126, []), (126, .istore 6, 128, [])]
theorem kX5_apart_7 : tX5_apart_7.all (am_okE cX5_apart) = true := by decide +kernel
def tX5_apart_8 : List am_En := [(128, .iload 6, 130, []), (130, .ifCond .eq 17, 133, [147]), (133, .aload_n 0, 134, []), (134, .getfield 21, 137, []), (137, .getfield 200, 140, []), (140, .iload 5, 142, []), (142, .dup2, 143, []), (143, .iaload, 144, [])]
theorem kX5_apart_8 : tX5_apart_8.all (am_okE cX5_apart) = true := by decide +kernel
def tX5_apart_9 : List am_En := [(144, .iconst 1, 145, []), (145, .isub, 146, []), (146, .iastore, 147, []), (147, .iload 6, 149, []), (149, .aload_n 0, 150, []), (150, .getfield 68, 153, []), (153, .getfield 105, 156, []), (156, .iload_n 1, 157, []), (157, .baload, 158, []), (158, .bipush 9, 160, [])]
theorem kX5_apart_9 : tX5_apart_9.all (am_okE cX5_apart) = true := by decide +kernel
def tX5_apart_10 : List am_En := [(160, .if_icmp .ne 7, 163, [167]), (163, .iconst 1, 164, []), (164, .goto 4, 167, [168]), (167, .iconst 0, 168, []), (168, .if_icmp .ne 21, 171, [189]), (171, .aload_n 0, 172, []), (172, .iload_n 2, 173, []), (173, .iload 4, 175, []), (175, .iconst 0, 176, [])]
theorem kX5_apart_10 : tX5_apart_10.all (am_okE cX5_apart) = true := by decide +kernel
def tX5_apart_11 : List am_En := [(176, .invokevirtual 150, 179, []), (179, .aload_n 0, 180, []), (180, .getfield 36, 183, []), (183, .iload_n 1, 184, []), (184, .dup2, 185, []), (185, .iaload, 186, []), (186, .iconst 1, 187, []), (187, .iadd, 188, []), (188, .iastore, 189, []), (189, .iinc 4 1, 192, [])]
theorem kX5_apart_11 : tX5_apart_11.all (am_okE cX5_apart) = true := by decide +kernel
def tX5_apart_12 : List am_En := [(192, .goto (-125), 195, [67]), (195, .return_, 196, [])]
theorem kX5_apart_12 : tX5_apart_12.all (am_okE cX5_apart) = true := by decide +kernel
def tX5_apart : List (List am_En) := [tX5_apart_0, tX5_apart_1, tX5_apart_2, tX5_apart_3, tX5_apart_4, tX5_apart_5, tX5_apart_6, tX5_apart_7, tX5_apart_8, tX5_apart_9, tX5_apart_10, tX5_apart_11, tX5_apart_12]
def mX5_apart : am_MR := (yX5_apart, cX5_apart, 7, none, 5, 3, (0, 0), tX5_apart)
theorem kX5_apart : am_chk cX5_apart tX5_apart = true := am_chk_c kX5_apart_0 (am_chk_c kX5_apart_1 (am_chk_c kX5_apart_2 (am_chk_c kX5_apart_3 (am_chk_c kX5_apart_4 (am_chk_c kX5_apart_5 (am_chk_c kX5_apart_6 (am_chk_c kX5_apart_7 (am_chk_c kX5_apart_8 (am_chk_c kX5_apart_9 (am_chk_c kX5_apart_10 (am_chk_c kX5_apart_11 (am_chk_c kX5_apart_12 (rfl)))))))))))))
def tX5_unique_0 : List am_En := [(0, .aload_n 0, 1, []), (1, .getfield 21, 4, []), (4, .aload_n 0, 5, []), (5, .getfield 26, 8, []), (8, .aload_n 0, 9, []), (9, .getfield 33, 12, []), (12, .iload_n 2, 13, []), (13, .iaload, 14, []), (14, .aload_n 0, 15, []), (15, .getfield 39, 18, [])]
theorem kX5_unique_0 : tX5_unique_0.all (am_okE cX5_unique) = true := by decide +kernel
def tX5_unique_1 : List am_En := [(18, .iload_n 2, 19, []), (19, .iaload, 20, []), (20, .aload_n 0, 21, []), (21, .getfield 48, 24, []), (24, .iconst 0, 25, []), (25, .aload_n 0, 26, []), (26, .getfield 39, 29, []), (29, .iload_n 2, 30, []), (30, .iaload, 31, []), (31, .invokevirtual 181, 34, [])]
theorem kX5_unique_1 : tX5_unique_1.all (am_okE cX5_unique) = true := by decide +kernel
def tX5_unique_2 : List am_En := [(34, .iconst 0, 35, []), (35, .istore_n 3, 36, []), (36, .iload_n 3, 37, []), (37, .aload_n 0, 38, []), (38, .getfield 36, 41, []), (41, .iload_n 2, 42, []), (42, .iaload, 43, []), (43, .if_icmp .ge 56, 46, [99]), (46, .aload_n 0, 47, []), (47, .getfield 21, 50, [])]
theorem kX5_unique_2 : tX5_unique_2.all (am_okE cX5_unique) = true := by decide +kernel
def tX5_unique_3 : List am_En := [(50, .getfield 203, 53, []), (53, .istore 4, 55, []), (55, .aload_n 0, 56, []), (56, .getfield 21, 59, []), (59, .iload_n 3, 60, []), (60, .invokevirtual 185, 63, []), (63, .pop, 64, [])]
theorem kX5_unique_3 : tX5_unique_3.all (am_okE cX5_unique) = true := by decide +kernel
def tX5_unique_4 : List am_En := [(64, .aload_n 0, 65, []), (65, .getfield 21, 68, []), (68, .getfield 203, 71, []), (71, .iload 4, 73, []), (73, .if_icmp .le 20, 76, [93]), (76, .aload_n 0, 77, []), (77, .iload_n 2, 78, []), (78, .iload_n 3, 79, []), (79, .iconst 0, 80, [])]
theorem kX5_unique_4 : tX5_unique_4.all (am_okE cX5_unique) = true := by decide +kernel
def tX5_unique_5 : List am_En := [(80, .invokevirtual 150, 83, []), (83, .aload_n 0, 84, []), (84, .getfield 36, 87, []), (87, .iload_n 1, 88, []), (88, .dup2, 89, []), (89, .iaload, 90, []), (90, .iconst 1, 91, []), (91, .iadd, 92, []), (92, .iastore, 93, []), (93, .iinc 3 1, 96, [])]
theorem kX5_unique_5 : tX5_unique_5.all (am_okE cX5_unique) = true := by decide +kernel
def tX5_unique_6 : List am_En := [(96, .goto (-60), 99, [36]), (99, .return_, 100, [])]
theorem kX5_unique_6 : tX5_unique_6.all (am_okE cX5_unique) = true := by decide +kernel
def tX5_unique : List (List am_En) := [tX5_unique_0, tX5_unique_1, tX5_unique_2, tX5_unique_3, tX5_unique_4, tX5_unique_5, tX5_unique_6]
def mX5_unique : am_MR := (yX5_unique, cX5_unique, 5, none, 5, 2, (0, 0), tX5_unique)
theorem kX5_unique : am_chk cX5_unique tX5_unique = true := am_chk_c kX5_unique_0 (am_chk_c kX5_unique_1 (am_chk_c kX5_unique_2 (am_chk_c kX5_unique_3 (am_chk_c kX5_unique_4 (am_chk_c kX5_unique_5 (am_chk_c kX5_unique_6 (rfl)))))))
def tX5_gather_0 : List am_En := [(0, .aload_n 0, 1, []), (1, .getfield 68, 4, []), (4, .getfield 167, 7, []), (7, .iload_n 1, 8, []), (8, .iaload, 9, []), (9, .istore_n 3, 10, []), (10, .aload_n 0, 11, []), (11, .getfield 68, 14, []), (14, .getfield 109, 17, [])]
theorem kX5_gather_0 : tX5_gather_0.all (am_okE cX5_gather) = true := by decide +kernel
def tX5_gather_1 : List am_En := [(17, .iload_n 1, 18, []), (18, .iaload, 19, []), (19, .istore 4, 21, []), (21, .aload_n 0, 22, []), (22, .getfield 21, 25, []), (25, .aload_n 0, 26, []), (26, .getfield 26, 29, []), (29, .aload_n 0, 30, []), (30, .getfield 33, 33, [])]
theorem kX5_gather_1 : tX5_gather_1.all (am_okE cX5_gather) = true := by decide +kernel
def tX5_gather_2 : List am_En := [(33, .iload_n 2, 34, []), (34, .iaload, 35, []), (35, .aload_n 0, 36, []), (36, .getfield 39, 39, []), (39, .iload_n 2, 40, []), (40, .iaload, 41, []), (41, .aload_n 0, 42, []), (42, .getfield 68, 45, []), (45, .getfield 161, 48, [])]
theorem kX5_gather_2 : tX5_gather_2.all (am_okE cX5_gather) = true := by decide +kernel
def tX5_gather_3 : List am_En := [(48, .aload_n 0, 49, []), (49, .getfield 68, 52, []), (52, .getfield 164, 55, []), (55, .iload_n 1, 56, []), (56, .iaload, 57, []), (57, .iload_n 3, 58, []), (58, .invokevirtual 181, 61, []), (61, .iconst 0, 62, []), (62, .istore 5, 64, [])]
theorem kX5_gather_3 : tX5_gather_3.all (am_okE cX5_gather) = true := by decide +kernel
def tX5_gather_4 : List am_En := [(64, .iload 5, 66, []), (66, .aload_n 0, 67, []), (67, .getfield 36, 70, []), (70, .iload_n 2, 71, []), (71, .iaload, 72, []), (72, .if_icmp .ge 108, 75, [180]), (75, .aload_n 0, 76, []), (76, .getfield 21, 79, []), (79, .getfield 203, 82, [])]
theorem kX5_gather_4 : tX5_gather_4.all (am_okE cX5_gather) = true := by decide +kernel
def tX5_gather_5 : List am_En := [(82, .istore 6, 84, []), (84, .aload_n 0, 85, []), (85, .getfield 21, 88, []), (88, .iload 5, 90, []), (90, .invokevirtual 185, 93, []), (93, .istore 7, 95, []), (95, .aload_n 0, 96, [])]
theorem kX5_gather_5 : tX5_gather_5.all (am_okE cX5_gather) = true := by decide +kernel
def tX5_gather_6 : List am_En := [(96, .getfield 26, 99, []), (99, .aload_n 0, 100, []), (100, .iload_n 2, 101, []), (101, .iload 5, 103, []), (103, .invokevirtual 146, 106, []), (106, .aload_n 0, 107, []), (107, .getfield 68, 110, []), (110, .getfield 197, 113, [])]
theorem kX5_gather_6 : tX5_gather_6.all (am_okE cX5_gather) = true := by decide +kernel
def tX5_gather_7 : List am_En := [(113, .iload_n 1, 114, []), (114, .iaload, 115, []), (115, .iadd, 116, []), (116, .iaload, 117, []), (117, .istore 8, 119, []), (119, .aload_n 0, 120, []), (120, .getfield 21, 123, []), (123, .getfield 203, 126, []), (126, .iload 6, 128, [])]
theorem kX5_gather_7 : tX5_gather_7.all (am_okE cX5_gather) = true := by decide +kernel
def tX5_gather_8 : List am_En := [(128, .if_icmp .le 18, 131, [146]), (131, .iload 4, 133, []), (133, .iconst 2, 134, []), (134, .if_icmp .ge 7, 137, [141]), (137, .iconst 0, 138, []), (138, .goto 15, 141, [153]), (141, .ldc 206, 143, []), (143, .goto 10, 146, [153])]
theorem kX5_gather_8 : tX5_gather_8.all (am_okE cX5_gather) = true := by decide +kernel
def tX5_gather_9 : List am_En := [(146, .aload_n 0, 147, []), (147, .getfield 51, 150, []), (150, .iload 7, 152, []), (152, .iaload, 153, []), (153, .istore 9, 155, []), (155, .aload_n 0, 156, []), (156, .getfield 51, 159, []), (159, .iload 7, 161, [])]
theorem kX5_gather_9 : tX5_gather_9.all (am_okE cX5_gather) = true := by decide +kernel
def tX5_gather_10 : List am_En := [(161, .aload_n 0, 162, []), (162, .iload 4, 164, []), (164, .iload 9, 166, []), (166, .iload 8, 168, []), (168, .iload 7, 170, []), (170, .invokevirtual 207, 173, []), (173, .iastore, 174, []), (174, .iinc 5 1, 177, [])]
theorem kX5_gather_10 : tX5_gather_10.all (am_okE cX5_gather) = true := by decide +kernel
def tX5_gather_11 : List am_En := [(177, .goto (-113), 180, [64]), (180, .aload_n 0, 181, []), (181, .getfield 39, 184, []), (184, .iload_n 1, 185, []), (185, .iload_n 3, 186, []), (186, .iconst 1, 187, []), (187, .iadd, 188, []), (188, .iastore, 189, []), (189, .iconst 0, 190, []), (190, .istore 5, 192, [])]
theorem kX5_gather_11 : tX5_gather_11.all (am_okE cX5_gather) = true := by decide +kernel
def tX5_gather_12 : List am_En := [(192, .iload 5, 194, []), (194, .aload_n 0, 195, []), (195, .getfield 21, 198, []), (198, .getfield 203, 201, []), (201, .if_icmp .ge 94, 204, [295]), (204, .aload_n 0, 205, []), (205, .iload_n 2, 206, []), (206, .aload_n 0, 207, []), (207, .getfield 21, 210, [])]
theorem kX5_gather_12 : tX5_gather_12.all (am_okE cX5_gather) = true := by decide +kernel
def tX5_gather_13 : List am_En := [(210, .getfield 193, 213, []), (213, .iload 5, 215, []), (215, .iaload, 216, []), (216, .invokevirtual 146, 219, []), (219, .istore 6, 221, []), (221, .iconst 0, 222, []), (222, .istore 7, 224, [])]
theorem kX5_gather_13 : tX5_gather_13.all (am_okE cX5_gather) = true := by decide +kernel
def tX5_gather_14 : List am_En := [(224, .iload 7, 226, []), (226, .iload_n 3, 227, []), (227, .if_icmp .ge 41, 230, [268]), (230, .aload_n 0, 231, []), (231, .aload_n 0, 232, []), (232, .getfield 26, 235, []), (235, .iload 6, 237, []), (237, .aload_n 0, 238, []), (238, .getfield 68, 241, [])]
theorem kX5_gather_14 : tX5_gather_14.all (am_okE cX5_gather) = true := by decide +kernel
def tX5_gather_15 : List am_En := [(241, .getfield 161, 244, []), (244, .aload_n 0, 245, []), (245, .getfield 68, 248, []), (248, .getfield 164, 251, []), (251, .iload_n 1, 252, []), (252, .iaload, 253, []), (253, .iload 7, 255, []), (255, .iadd, 256, [])]
theorem kX5_gather_15 : tX5_gather_15.all (am_okE cX5_gather) = true := by decide +kernel
def tX5_gather_16 : List am_En := [(256, .iaload, 257, []), (257, .iadd, 258, []), (258, .iaload, 259, []), (259, .invokevirtual 178, 262, []), (262, .iinc 7 1, 265, []), (265, .goto (-41), 268, [224]), (268, .aload_n 0, 269, []), (269, .aload_n 0, 270, []), (270, .getfield 51, 273, [])]
theorem kX5_gather_16 : tX5_gather_16.all (am_okE cX5_gather) = true := by decide +kernel
def tX5_gather_17 : List am_En := [(273, .iload 5, 275, []), (275, .iaload, 276, []), (276, .invokevirtual 178, 279, []), (279, .aload_n 0, 280, []), (280, .getfield 36, 283, []), (283, .iload_n 1, 284, []), (284, .dup2, 285, []), (285, .iaload, 286, []), (286, .iconst 1, 287, []), (287, .iadd, 288, [])]
theorem kX5_gather_17 : tX5_gather_17.all (am_okE cX5_gather) = true := by decide +kernel
def tX5_gather_18 : List am_En := [(288, .iastore, 289, []), (289, .iinc 5 1, 292, []), (292, .goto (-100), 295, [192]), (295, .return_, 296, [])]
theorem kX5_gather_18 : tX5_gather_18.all (am_okE cX5_gather) = true := by decide +kernel
def tX5_gather : List (List am_En) := [tX5_gather_0, tX5_gather_1, tX5_gather_2, tX5_gather_3, tX5_gather_4, tX5_gather_5, tX5_gather_6, tX5_gather_7, tX5_gather_8, tX5_gather_9, tX5_gather_10, tX5_gather_11, tX5_gather_12, tX5_gather_13, tX5_gather_14, tX5_gather_15, tX5_gather_16, tX5_gather_17, tX5_gather_18]
def mX5_gather : am_MR := (yX5_gather, cX5_gather, 10, none, 5, 2, (0, 0), tX5_gather)
theorem kX5_gather : am_chk cX5_gather tX5_gather = true := am_chk_c kX5_gather_0 (am_chk_c kX5_gather_1 (am_chk_c kX5_gather_2 (am_chk_c kX5_gather_3 (am_chk_c kX5_gather_4 (am_chk_c kX5_gather_5 (am_chk_c kX5_gather_6 (am_chk_c kX5_gather_7 (am_chk_c kX5_gather_8 (am_chk_c kX5_gather_9 (am_chk_c kX5_gather_10 (am_chk_c kX5_gather_11 (am_chk_c kX5_gather_12 (am_chk_c kX5_gather_13 (am_chk_c kX5_gather_14 (am_chk_c kX5_gather_15 (am_chk_c kX5_gather_16 (am_chk_c kX5_gather_17 (am_chk_c kX5_gather_18 (rfl)))))))))))))))))))
def tX5_folded_0 : List am_En := [(0, .iload_n 1, 1, []), (1, .ifCond .ne 7, 4, [8]), (4, .iload_n 2, 5, []), (5, .iconst 1, 6, []), (6, .iadd, 7, []), (7, .ireturn, 8, []), (8, .aload_n 0, 9, []), (9, .getfield 21, 12, []), (12, .getfield 200, 15, []), (15, .iload 4, 17, [])]
theorem kX5_folded_0 : tX5_folded_0.all (am_okE cX5_folded) = true := by decide +kernel
def tX5_folded_1 : List am_En := [(17, .iaload, 18, []), (18, .iconst 1, 19, []), (19, .if_icmp .ne 11, 22, [30]), (22, .aload_n 0, 23, []), (23, .getfield 60, 26, []), (26, .iload 4, 28, []), (28, .iconst 0, 29, []), (29, .bastore, 30, []), (30, .iload_n 3, 31, []), (31, .ldc 206, 33, [])]
theorem kX5_folded_1 : tX5_folded_1.all (am_okE cX5_folded) = true := by decide +kernel
def tX5_folded_2 : List am_En := [(33, .if_icmp .ne 5, 36, [38]), (36, .iload_n 2, 37, []), (37, .ireturn, 38, []), (38, .aload_n 0, 39, []), (39, .getfield 60, 42, []), (42, .iload 4, 44, []), (44, .baload, 45, []), (45, .ifCond .ne 7, 48, [52])]
theorem kX5_folded_2 : tX5_folded_2.all (am_okE cX5_folded) = true := by decide +kernel
def tX5_folded_3 : List am_En := [(48, .iconst 1, 49, []), (49, .goto 4, 52, [53]), (52, .iconst 0, 53, []), (53, .istore 5, 55, []), (55, .aload_n 0, 56, []), (56, .getfield 60, 59, []), (59, .iload 4, 61, []), (61, .iconst 1, 62, []), (62, .bastore, 63, []), (63, .iload_n 1, 64, [])]
theorem kX5_folded_3 : tX5_folded_3.all (am_okE cX5_folded) = true := by decide +kernel
def tX5_folded_4 : List am_En := [(64, .tableswitch 61 1 3 #[28, 32, 45], 92, [125, 92, 96, 109])]
theorem kX5_folded_4 : tX5_folded_4.all (am_okE cX5_folded) = true := by decide +kernel
def tX5_folded_5 : List am_En := [(92, .iload_n 2, 93, []), (93, .iconst 1, 94, []), (94, .iadd, 95, []), (95, .ireturn, 96, [])]
theorem kX5_folded_5 : tX5_folded_5.all (am_okE cX5_folded) = true := by decide +kernel
def tX5_folded_6 : List am_En := [(96, .iload 5, 98, []), (98, .ifCond .eq 7, 101, [105]), (101, .iload_n 3, 102, []), (102, .goto 6, 105, [108]), (105, .iload_n 2, 106, []), (106, .iload_n 3, 107, []), (107, .iadd, 108, []), (108, .ireturn, 109, []), (109, .iload 5, 111, []), (111, .ifCond .ne 8, 114, [119])]
theorem kX5_folded_6 : tX5_folded_6.all (am_okE cX5_folded) = true := by decide +kernel
def tX5_folded_7 : List am_En := [(114, .iload_n 3, 115, []), (115, .iload_n 2, 116, []), (116, .if_icmp .ge 7, 119, [123]), (119, .iload_n 3, 120, []), (120, .goto 4, 123, [124]), (123, .iload_n 2, 124, []), (124, .ireturn, 125, []), (125, .iload 5, 127, []), (127, .ifCond .ne 8, 130, [135])]
theorem kX5_folded_7 : tX5_folded_7.all (am_okE cX5_folded) = true := by decide +kernel
def tX5_folded_8 : List am_En := [(130, .iload_n 3, 131, []), (131, .iload_n 2, 132, []), (132, .if_icmp .le 7, 135, [139]), (135, .iload_n 3, 136, []), (136, .goto 4, 139, [140]), (139, .iload_n 2, 140, []), (140, .ireturn, 141, [])]
theorem kX5_folded_8 : tX5_folded_8.all (am_okE cX5_folded) = true := by decide +kernel
def tX5_folded : List (List am_En) := [tX5_folded_0, tX5_folded_1, tX5_folded_2, tX5_folded_3, tX5_folded_4, tX5_folded_5, tX5_folded_6, tX5_folded_7, tX5_folded_8]
def mX5_folded : am_MR := (yX5_folded, cX5_folded, 6, (some .int), 5, 4, (0, 0), tX5_folded)
theorem kX5_folded : am_chk cX5_folded tX5_folded = true := am_chk_c kX5_folded_0 (am_chk_c kX5_folded_1 (am_chk_c kX5_folded_2 (am_chk_c kX5_folded_3 (am_chk_c kX5_folded_4 (am_chk_c kX5_folded_5 (am_chk_c kX5_folded_6 (am_chk_c kX5_folded_7 (am_chk_c kX5_folded_8 (rfl)))))))))
def tX5_top_0 : List am_En := [(0, .aload_n 0, 1, []), (1, .iload_n 2, 2, []), (2, .invokevirtual 224, 5, []), (5, .iconst 0, 6, []), (6, .istore_n 3, 7, []), (7, .iconst 0, 8, []), (8, .istore 4, 10, []), (10, .iload 4, 12, []), (12, .aload_n 0, 13, []), (13, .getfield 36, 16, [])]
theorem kX5_top_0 : tX5_top_0.all (am_okE cX5_top) = true := by decide +kernel
def tX5_top_1 : List am_En := [(16, .iload_n 2, 17, []), (17, .iaload, 18, []), (18, .if_icmp .ge 150, 21, [168]), (21, .iload 4, 23, []), (23, .ifCond .le 7, 26, [30]), (26, .iconst 1, 27, []), (27, .goto 4, 30, [31]), (30, .iconst 0, 31, []), (31, .istore 5, 33, [])]
theorem kX5_top_1 : tX5_top_1.all (am_okE cX5_top) = true := by decide +kernel
def tX5_top_2 : List am_En := [(33, .iconst 0, 34, []), (34, .istore 6, 36, []), (36, .iload 6, 38, []), (38, .aload_n 0, 39, []), (39, .getfield 68, 42, []), (42, .getfield 167, 45, []), (45, .iload_n 1, 46, []), (46, .iaload, 47, []), (47, .if_icmp .ge 66, 50, [113])]
theorem kX5_top_2 : tX5_top_2.all (am_okE cX5_top) = true := by decide +kernel
def tX5_top_3 : List am_En := [(50, .iload 5, 52, []), (52, .ifCond .eq 61, 55, [113]), (55, .aload_n 0, 56, []), (56, .getfield 26, 59, []), (59, .aload_n 0, 60, []), (60, .iload_n 2, 61, []), (61, .aload_n 0, 62, []), (62, .getfield 54, 65, [])]
theorem kX5_top_3 : tX5_top_3.all (am_okE cX5_top) = true := by decide +kernel
def tX5_top_4 : List am_En := [(65, .iload 4, 67, []), (67, .iaload, 68, []), (68, .invokevirtual 146, 71, []), (71, .iload 6, 73, []), (73, .iadd, 74, []), (74, .iaload, 75, []), (75, .aload_n 0, 76, []), (76, .getfield 26, 79, []), (79, .aload_n 0, 80, [])]
theorem kX5_top_4 : tX5_top_4.all (am_okE cX5_top) = true := by decide +kernel
def tX5_top_5 : List am_En := [(80, .iload_n 2, 81, []), (81, .aload_n 0, 82, []), (82, .getfield 54, 85, []), (85, .iload 4, 87, []), (87, .iconst 1, 88, []), (88, .isub, 89, []), (89, .iaload, 90, []), (90, .invokevirtual 146, 93, []), (93, .iload 6, 95, []), (95, .iadd, 96, [])]
theorem kX5_top_5 : tX5_top_5.all (am_okE cX5_top) = true := by decide +kernel
def tX5_top_6 : List am_En := [(96, .iaload, 97, []), (97, .if_icmp .ne 7, 100, [104]), (100, .iconst 1, 101, []), (101, .goto 4, 104, [105]), (104, .iconst 0, 105, []), (105, .istore 5, 107, []), (107, .iinc 6 1, 110, []), (110, .goto (-74), 113, [36])]
theorem kX5_top_6 : tX5_top_6.all (am_okE cX5_top) = true := by decide +kernel
def tX5_top_7 : List am_En := [(113, .iload 5, 115, []), (115, .ifCond .eq 9, 118, [124]), (118, .iload_n 3, 119, []), (119, .iconst 1, 120, []), (120, .iadd, 121, []), (121, .goto 4, 124, [125]), (124, .iconst 0, 125, []), (125, .istore_n 3, 126, []), (126, .iload_n 3, 127, []), (127, .aload_n 0, 128, [])]
theorem kX5_top_7 : tX5_top_7.all (am_okE cX5_top) = true := by decide +kernel
def tX5_top_8 : List am_En := [(128, .getfield 68, 131, []), (131, .getfield 197, 134, []), (134, .iload_n 1, 135, []), (135, .iaload, 136, []), (136, .if_icmp .ge 26, 139, [162]), (139, .aload_n 0, 140, []), (140, .iload_n 2, 141, []), (141, .aload_n 0, 142, []), (142, .getfield 54, 145, [])]
theorem kX5_top_8 : tX5_top_8.all (am_okE cX5_top) = true := by decide +kernel
def tX5_top_9 : List am_En := [(145, .iload 4, 147, []), (147, .iaload, 148, []), (148, .iconst 0, 149, []), (149, .invokevirtual 150, 152, []), (152, .aload_n 0, 153, []), (153, .getfield 36, 156, []), (156, .iload_n 1, 157, []), (157, .dup2, 158, []), (158, .iaload, 159, []), (159, .iconst 1, 160, [])]
theorem kX5_top_9 : tX5_top_9.all (am_okE cX5_top) = true := by decide +kernel
def tX5_top_10 : List am_En := [(160, .iadd, 161, []), (161, .iastore, 162, []), (162, .iinc 4 1, 165, []), (165, .goto (-155), 168, [10]), (168, .return_, 169, [])]
theorem kX5_top_10 : tX5_top_10.all (am_okE cX5_top) = true := by decide +kernel
def tX5_top : List (List am_En) := [tX5_top_0, tX5_top_1, tX5_top_2, tX5_top_3, tX5_top_4, tX5_top_5, tX5_top_6, tX5_top_7, tX5_top_8, tX5_top_9, tX5_top_10]
def mX5_top : am_MR := (yX5_top, cX5_top, 7, none, 5, 2, (0, 0), tX5_top)
theorem kX5_top : am_chk cX5_top tX5_top = true := am_chk_c kX5_top_0 (am_chk_c kX5_top_1 (am_chk_c kX5_top_2 (am_chk_c kX5_top_3 (am_chk_c kX5_top_4 (am_chk_c kX5_top_5 (am_chk_c kX5_top_6 (am_chk_c kX5_top_7 (am_chk_c kX5_top_8 (am_chk_c kX5_top_9 (am_chk_c kX5_top_10 (rfl)))))))))))
def tX5_sort_0 : List am_En := [(0, .aload_n 0, 1, []), (1, .getfield 36, 4, []), (4, .iload_n 1, 5, []), (5, .iaload, 6, []), (6, .istore_n 2, 7, []), (7, .iconst 0, 8, []), (8, .istore_n 3, 9, []), (9, .iload_n 3, 10, []), (10, .iload_n 2, 11, []), (11, .if_icmp .ge 16, 14, [27]), (14, .aload_n 0, 15, []), (15, .getfield 54, 18, [])]
theorem kX5_sort_0 : tX5_sort_0.all (am_okE cX5_sort) = true := by decide +kernel
def tX5_sort_1 : List am_En := [(18, .iload_n 3, 19, []), (19, .iload_n 3, 20, []), (20, .iastore, 21, []), (21, .iinc 3 1, 24, []), (24, .goto (-15), 27, [9]), (27, .iconst 1, 28, []), (28, .istore_n 3, 29, []), (29, .iload_n 3, 30, []), (30, .iload_n 2, 31, []), (31, .if_icmp .ge 69, 34, [100])]
theorem kX5_sort_1 : tX5_sort_1.all (am_okE cX5_sort) = true := by decide +kernel
def tX5_sort_2 : List am_En := [(34, .iconst 0, 35, []), (35, .istore 4, 37, []), (37, .iload 4, 39, []), (39, .iload_n 2, 40, []), (40, .if_icmp .ge 39, 43, [79]), (43, .aload_n 0, 44, []), (44, .iload_n 1, 45, []), (45, .iload 4, 47, []), (47, .iload_n 2, 48, [])]
theorem kX5_sort_2 : tX5_sort_2.all (am_okE cX5_sort) = true := by decide +kernel
def tX5_sort_3 : List am_En := [(48, .iload 4, 50, []), (50, .iload_n 3, 51, []), (51, .iadd, 52, []), (52, .invokestatic 211, 55, []), (55, .iload_n 2, 56, []), (56, .iload 4, 58, []), (58, .iconst 2, 59, []), (59, .iload_n 3, 60, []), (60, .imul, 61, []), (61, .iadd, 62, []), (62, .invokestatic 211, 65, [])]
theorem kX5_sort_3 : tX5_sort_3.all (am_okE cX5_sort) = true := by decide +kernel
def tX5_sort_4 : List am_En := [(65, .invokevirtual 216, 68, []), (68, .iload 4, 70, []), (70, .iconst 2, 71, []), (71, .iload_n 3, 72, []), (72, .imul, 73, []), (73, .iadd, 74, []), (74, .istore 4, 76, []), (76, .goto (-39), 79, [37]), (79, .aload_n 0, 80, [])]
theorem kX5_sort_4 : tX5_sort_4.all (am_okE cX5_sort) = true := by decide +kernel
def tX5_sort_5 : List am_En := [(80, .getfield 57, 83, []), (83, .iconst 0, 84, []), (84, .aload_n 0, 85, []), (85, .getfield 54, 88, []), (88, .iconst 0, 89, []), (89, .iload_n 2, 90, []), (90, .invokestatic 99, 93, []), (93, .iload_n 3, 94, []), (94, .iconst 2, 95, []), (95, .imul, 96, [])]
theorem kX5_sort_5 : tX5_sort_5.all (am_okE cX5_sort) = true := by decide +kernel
def tX5_sort_6 : List am_En := [(96, .istore_n 3, 97, []), (97, .goto (-68), 100, [29]), (100, .return_, 101, [])]
theorem kX5_sort_6 : tX5_sort_6.all (am_okE cX5_sort) = true := by decide +kernel
def tX5_sort : List (List am_En) := [tX5_sort_0, tX5_sort_1, tX5_sort_2, tX5_sort_3, tX5_sort_4, tX5_sort_5, tX5_sort_6]
def mX5_sort : am_MR := (yX5_sort, cX5_sort, 5, none, 5, 1, (0, 0), tX5_sort)
theorem kX5_sort : am_chk cX5_sort tX5_sort = true := am_chk_c kX5_sort_0 (am_chk_c kX5_sort_1 (am_chk_c kX5_sort_2 (am_chk_c kX5_sort_3 (am_chk_c kX5_sort_4 (am_chk_c kX5_sort_5 (am_chk_c kX5_sort_6 (rfl)))))))
def tX5_merge_0 : List am_En := [(0, .iload_n 2, 1, []), (1, .istore 5, 3, []), (3, .iload_n 3, 4, []), (4, .istore 6, 6, []), (6, .iload_n 2, 7, []), (7, .istore 7, 9, []), (9, .iload 7, 11, []), (11, .iload 4, 13, []), (13, .if_icmp .ge 86, 16, [99])]
theorem kX5_merge_0 : tX5_merge_0.all (am_okE cX5_merge) = true := by decide +kernel
def tX5_merge_1 : List am_En := [(16, .iload 5, 18, []), (18, .iload_n 3, 19, []), (19, .if_icmp .eq 32, 22, [51]), (22, .iload 6, 24, []), (24, .iload 4, 26, []), (26, .if_icmp .ge 29, 29, [55]), (29, .aload_n 0, 30, []), (30, .iload_n 1, 31, []), (31, .aload_n 0, 32, [])]
theorem kX5_merge_1 : tX5_merge_1.all (am_okE cX5_merge) = true := by decide +kernel
def tX5_merge_2 : List am_En := [(32, .getfield 54, 35, []), (35, .iload 6, 37, []), (37, .iaload, 38, []), (38, .aload_n 0, 39, []), (39, .getfield 54, 42, []), (42, .iload 5, 44, []), (44, .iaload, 45, []), (45, .invokevirtual 220, 48, [])]
theorem kX5_merge_2 : tX5_merge_2.all (am_okE cX5_merge) = true := by decide +kernel
def tX5_merge_3 : List am_En := [(48, .ifCond .eq 7, 51, [55]), (51, .iconst 1, 52, []), (52, .goto 4, 55, [56]), (55, .iconst 0, 56, []), (56, .istore 8, 58, []), (58, .aload_n 0, 59, []), (59, .getfield 57, 62, []), (62, .iload 7, 64, [])]
theorem kX5_merge_3 : tX5_merge_3.all (am_okE cX5_merge) = true := by decide +kernel
def tX5_merge_4 : List am_En := [(64, .iload 8, 66, []), (66, .ifCond .eq 16, 69, [82]), (69, .aload_n 0, 70, []), (70, .getfield 54, 73, []), (73, .iload 6, 75, []), (75, .iinc 6 1, 78, []), (78, .iaload, 79, []), (79, .goto 13, 82, [92])]
theorem kX5_merge_4 : tX5_merge_4.all (am_okE cX5_merge) = true := by decide +kernel
def tX5_merge_5 : List am_En := [(82, .aload_n 0, 83, []), (83, .getfield 54, 86, []), (86, .iload 5, 88, []), (88, .iinc 5 1, 91, []), (91, .iaload, 92, []), (92, .iastore, 93, []), (93, .iinc 7 1, 96, [])]
theorem kX5_merge_5 : tX5_merge_5.all (am_okE cX5_merge) = true := by decide +kernel
def tX5_merge_6 : List am_En := [(96, .goto (-87), 99, [9]), (99, .return_, 100, [])]
theorem kX5_merge_6 : tX5_merge_6.all (am_okE cX5_merge) = true := by decide +kernel
def tX5_merge : List (List am_En) := [tX5_merge_0, tX5_merge_1, tX5_merge_2, tX5_merge_3, tX5_merge_4, tX5_merge_5, tX5_merge_6]
def mX5_merge : am_MR := (yX5_merge, cX5_merge, 9, none, 5, 4, (0, 0), tX5_merge)
theorem kX5_merge : am_chk cX5_merge tX5_merge = true := am_chk_c kX5_merge_0 (am_chk_c kX5_merge_1 (am_chk_c kX5_merge_2 (am_chk_c kX5_merge_3 (am_chk_c kX5_merge_4 (am_chk_c kX5_merge_5 (am_chk_c kX5_merge_6 (rfl)))))))
def tX5_isBefore_0 : List am_En := [(0, .aload_n 0, 1, []), (1, .iload_n 1, 2, []), (2, .iload_n 2, 3, []), (3, .invokevirtual 146, 6, []), (6, .istore 4, 8, []), (8, .aload_n 0, 9, []), (9, .iload_n 1, 10, []), (10, .iload_n 3, 11, []), (11, .invokevirtual 146, 14, []), (14, .istore 5, 16, [])]
theorem kX5_isBefore_0 : tX5_isBefore_0.all (am_okE cX5_isBefore) = true := by decide +kernel
def tX5_isBefore_1 : List am_En := [(16, .iconst 0, 17, []), (17, .istore 6, 19, []), (19, .iload 6, 21, []), (21, .aload_n 0, 22, []), (22, .getfield 39, 25, []), (25, .iload_n 1, 26, []), (26, .iaload, 27, []), (27, .if_icmp .ge 32, 30, [59]), (30, .aload_n 0, 31, []), (31, .getfield 26, 34, [])]
theorem kX5_isBefore_1 : tX5_isBefore_1.all (am_okE cX5_isBefore) = true := by decide +kernel
def tX5_isBefore_2 : List am_En := [(34, .iload 4, 36, []), (36, .iload 6, 38, []), (38, .iadd, 39, []), (39, .iaload, 40, []), (40, .aload_n 0, 41, []), (41, .getfield 26, 44, []), (44, .iload 5, 46, []), (46, .iload 6, 48, [])]
theorem kX5_isBefore_2 : tX5_isBefore_2.all (am_okE cX5_isBefore) = true := by decide +kernel
def tX5_isBefore_3 : List am_En := [(48, .iadd, 49, []), (49, .iaload, 50, []), (50, .if_icmp .ne 9, 53, [59]), (53, .iinc 6 1, 56, []), (56, .goto (-37), 59, [19]), (59, .iload 6, 61, []), (61, .aload_n 0, 62, []), (62, .getfield 39, 65, [])]
theorem kX5_isBefore_3 : tX5_isBefore_3.all (am_okE cX5_isBefore) = true := by decide +kernel
def tX5_isBefore_4 : List am_En := [(65, .iload_n 1, 66, []), (66, .iaload, 67, []), (67, .if_icmp .ge 30, 70, [97]), (70, .aload_n 0, 71, []), (71, .getfield 26, 74, []), (74, .iload 4, 76, []), (76, .iload 6, 78, []), (78, .iadd, 79, []), (79, .iaload, 80, [])]
theorem kX5_isBefore_4 : tX5_isBefore_4.all (am_okE cX5_isBefore) = true := by decide +kernel
def tX5_isBefore_5 : List am_En := [(80, .aload_n 0, 81, []), (81, .getfield 26, 84, []), (84, .iload 5, 86, []), (86, .iload 6, 88, []), (88, .iadd, 89, []), (89, .iaload, 90, []), (90, .if_icmp .ge 7, 93, [97]), (93, .iconst 1, 94, []), (94, .goto 4, 97, [98])]
theorem kX5_isBefore_5 : tX5_isBefore_5.all (am_okE cX5_isBefore) = true := by decide +kernel
def tX5_isBefore_6 : List am_En := [(97, .iconst 0, 98, []), (98, .ireturn, 99, [])]
theorem kX5_isBefore_6 : tX5_isBefore_6.all (am_okE cX5_isBefore) = true := by decide +kernel
def tX5_isBefore : List (List am_En) := [tX5_isBefore_0, tX5_isBefore_1, tX5_isBefore_2, tX5_isBefore_3, tX5_isBefore_4, tX5_isBefore_5, tX5_isBefore_6]
def mX5_isBefore : am_MR := (yX5_isBefore, cX5_isBefore, 7, (some .boolean), 5, 3, (0, 0), tX5_isBefore)
theorem kX5_isBefore : am_chk cX5_isBefore tX5_isBefore = true := am_chk_c kX5_isBefore_0 (am_chk_c kX5_isBefore_1 (am_chk_c kX5_isBefore_2 (am_chk_c kX5_isBefore_3 (am_chk_c kX5_isBefore_4 (am_chk_c kX5_isBefore_5 (am_chk_c kX5_isBefore_6 (rfl)))))))
def tX5_tidy_0 : List am_En := [(0, .iconst 0, 1, []), (1, .istore_n 2, 2, []), (2, .iconst 0, 3, []), (3, .istore_n 3, 4, []), (4, .iconst 0, 5, []), (5, .istore 4, 7, []), (7, .iload 4, 9, []), (9, .aload_n 0, 10, []), (10, .getfield 76, 13, []), (13, .if_icmp .ge 102, 16, [115])]
theorem kX5_tidy_0 : tX5_tidy_0.all (am_okE cX5_tidy) = true := by decide +kernel
def tX5_tidy_1 : List am_En := [(16, .aload_n 0, 17, []), (17, .getfield 45, 20, []), (20, .iload 4, 22, []), (22, .iaload, 23, []), (23, .istore 5, 25, []), (25, .aload_n 0, 26, []), (26, .getfield 36, 29, []), (29, .iload 5, 31, []), (31, .iaload, 32, [])]
theorem kX5_tidy_1 : tX5_tidy_1.all (am_okE cX5_tidy) = true := by decide +kernel
def tX5_tidy_2 : List am_En := [(32, .aload_n 0, 33, []), (33, .getfield 39, 36, []), (36, .iload 5, 38, []), (38, .iaload, 39, []), (39, .imul, 40, []), (40, .istore 6, 42, []), (42, .aload_n 0, 43, []), (43, .getfield 42, 46, []), (46, .iload 5, 48, [])]
theorem kX5_tidy_2 : tX5_tidy_2.all (am_okE cX5_tidy) = true := by decide +kernel
def tX5_tidy_3 : List am_En := [(48, .iaload, 49, []), (49, .iload_n 1, 50, []), (50, .if_icmp .le 59, 53, [109]), (53, .aload_n 0, 54, []), (54, .getfield 33, 57, []), (57, .iload 5, 59, []), (59, .iaload, 60, []), (60, .iload_n 3, 61, []), (61, .if_icmp .le 32, 64, [93])]
theorem kX5_tidy_3 : tX5_tidy_3.all (am_okE cX5_tidy) = true := by decide +kernel
def tX5_tidy_4 : List am_En := [(64, .aload_n 0, 65, []), (65, .getfield 26, 68, []), (68, .aload_n 0, 69, []), (69, .getfield 33, 72, []), (72, .iload 5, 74, []), (74, .iaload, 75, []), (75, .aload_n 0, 76, []), (76, .getfield 26, 79, []), (79, .iload_n 3, 80, [])]
theorem kX5_tidy_4 : tX5_tidy_4.all (am_okE cX5_tidy) = true := by decide +kernel
def tX5_tidy_5 : List am_En := [(80, .iload 6, 82, []), (82, .invokestatic 99, 85, []), (85, .aload_n 0, 86, []), (86, .getfield 33, 89, []), (89, .iload 5, 91, []), (91, .iload_n 3, 92, []), (92, .iastore, 93, []), (93, .iload_n 3, 94, []), (94, .iload 6, 96, [])]
theorem kX5_tidy_5 : tX5_tidy_5.all (am_okE cX5_tidy) = true := by decide +kernel
def tX5_tidy_6 : List am_En := [(96, .iadd, 97, []), (97, .istore_n 3, 98, []), (98, .aload_n 0, 99, []), (99, .getfield 45, 102, []), (102, .iload_n 2, 103, []), (103, .iinc 2 1, 106, []), (106, .iload 5, 108, []), (108, .iastore, 109, []), (109, .iinc 4 1, 112, [])]
theorem kX5_tidy_6 : tX5_tidy_6.all (am_okE cX5_tidy) = true := by decide +kernel
def tX5_tidy_7 : List am_En := [(112, .goto (-105), 115, [7]), (115, .aload_n 0, 116, []), (116, .iload_n 2, 117, []), (117, .putfield 76, 120, []), (120, .aload_n 0, 121, []), (121, .iload_n 3, 122, []), (122, .putfield 72, 125, []), (125, .return_, 126, [])]
theorem kX5_tidy_7 : tX5_tidy_7.all (am_okE cX5_tidy) = true := by decide +kernel
def tX5_tidy : List (List am_En) := [tX5_tidy_0, tX5_tidy_1, tX5_tidy_2, tX5_tidy_3, tX5_tidy_4, tX5_tidy_5, tX5_tidy_6, tX5_tidy_7]
def mX5_tidy : am_MR := (yX5_tidy, cX5_tidy, 7, none, 5, 1, (0, 0), tX5_tidy)
theorem kX5_tidy : am_chk cX5_tidy tX5_tidy = true := am_chk_c kX5_tidy_0 (am_chk_c kX5_tidy_1 (am_chk_c kX5_tidy_2 (am_chk_c kX5_tidy_3 (am_chk_c kX5_tidy_4 (am_chk_c kX5_tidy_5 (am_chk_c kX5_tidy_6 (am_chk_c kX5_tidy_7 (rfl))))))))
def tX5_cell_0 : List am_En := [(0, .aload_n 0, 1, []), (1, .getfield 26, 4, []), (4, .aload_n 0, 5, []), (5, .getfield 33, 8, []), (8, .iload_n 1, 9, []), (9, .iaload, 10, []), (10, .aload_n 0, 11, []), (11, .getfield 54, 14, []), (14, .iload_n 2, 15, []), (15, .iaload, 16, [])]
theorem kX5_cell_0 : tX5_cell_0.all (am_okE cX5_cell) = true := by decide +kernel
def tX5_cell_1 : List am_En := [(16, .aload_n 0, 17, []), (17, .getfield 39, 20, []), (20, .iload_n 1, 21, []), (21, .iaload, 22, []), (22, .imul, 23, []), (23, .iadd, 24, []), (24, .iload_n 3, 25, []), (25, .iadd, 26, []), (26, .iaload, 27, []), (27, .ireturn, 28, [])]
theorem kX5_cell_1 : tX5_cell_1.all (am_okE cX5_cell) = true := by decide +kernel
def tX5_cell : List (List am_En) := [tX5_cell_0, tX5_cell_1]
def mX5_cell : am_MR := (yX5_cell, cX5_cell, 4, (some .int), 5, 3, (0, 0), tX5_cell)
theorem kX5_cell : am_chk cX5_cell tX5_cell = true := am_chk_c kX5_cell_0 (am_chk_c kX5_cell_1 (rfl))
def tX6_init_0 : List am_En := [(0, .aload_n 0, 1, []), (1, .invokespecial 3, 4, []), (4, .aload_n 0, 5, []), (5, .sipush 256, 8, []), (8, .newarray .int, 10, []), (10, .putfield 9, 13, []), (13, .return_, 14, [])]
theorem kX6_init_0 : tX6_init_0.all (am_okE cX6_init) = true := by decide +kernel
def tX6_init : List (List am_En) := [tX6_init_0]
def mX6_init : am_MR := (yX6_init, cX6_init, 1, none, 6, 0, (1, 256), tX6_init)
theorem kX6_init : am_chk cX6_init tX6_init = true := am_chk_c kX6_init_0 (rfl)
def tX6_run_0 : List am_En := [(0, .iconst 0, 1, []), (1, .istore 6, 3, []), (3, .iload_n 2, 4, []), (4, .istore 7, 6, []), (6, .iload 7, 8, []), (8, .iload_n 2, 9, []), (9, .iload_n 3, 10, []), (10, .iadd, 11, []), (11, .if_icmp .ge 356, 14, [367]), (14, .aload_n 1, 15, []), (15, .iload 7, 17, [])]
theorem kX6_run_0 : tX6_run_0.all (am_okE cX6_run) = true := by decide +kernel
def tX6_run_1 : List am_En := [(17, .iaload, 18, []), (18, .istore 8, 20, []), (20, .iload 8, 22, []), (22, .tableswitch 252 0 10 #[58, 78, 104, 104, 176, 252, 252, 252, 252, 252, 210], 80, [274, 80, 100, 126, 126, 198, 274, 274, 274, 274, 274, 232])]
theorem kX6_run_1 : tX6_run_1.all (am_okE cX6_run) = true := by decide +kernel
def tX6_run_2 : List am_En := []
theorem kX6_run_2 : tX6_run_2.all (am_okE cX6_run) = true := by decide +kernel
def tX6_run_3 : List am_En := []
theorem kX6_run_3 : tX6_run_3.all (am_okE cX6_run) = true := by decide +kernel
def tX6_run_4 : List am_En := []
theorem kX6_run_4 : tX6_run_4.all (am_okE cX6_run) = true := by decide +kernel
def tX6_run_5 : List am_En := [(80, .aload_n 0, 81, []), (81, .getfield 9, 84, []), (84, .iload 6, 86, []), (86, .iinc 6 1, 89, []), (89, .aload_n 1, 90, []), (90, .iinc 7 1, 93, []), (93, .iload 7, 95, []), (95, .iaload, 96, [])]
theorem kX6_run_5 : tX6_run_5.all (am_okE cX6_run) = true := by decide +kernel
def tX6_run_6 : List am_En := [(96, .iastore, 97, []), (97, .goto 264, 100, [361]), (100, .aload_n 0, 101, []), (101, .getfield 9, 104, []), (104, .iload 6, 106, []), (106, .iinc 6 1, 109, []), (109, .aload 4, 111, []), (111, .iload 5, 113, [])]
theorem kX6_run_6 : tX6_run_6.all (am_okE cX6_run) = true := by decide +kernel
def tX6_run_7 : List am_En := [(113, .aload_n 1, 114, []), (114, .iinc 7 1, 117, []), (117, .iload 7, 119, []), (119, .iaload, 120, []), (120, .iadd, 121, []), (121, .iaload, 122, []), (122, .iastore, 123, []), (123, .goto 238, 126, [361]), (126, .iload 5, 128, [])]
theorem kX6_run_7 : tX6_run_7.all (am_okE cX6_run) = true := by decide +kernel
def tX6_run_8 : List am_En := [(128, .aload_n 1, 129, []), (129, .iinc 7 1, 132, []), (132, .iload 7, 134, []), (134, .iaload, 135, []), (135, .iadd, 136, []), (136, .istore 9, 138, []), (138, .iload 8, 140, []), (140, .iconst 2, 141, []), (141, .if_icmp .ne 7, 144, [148])]
theorem kX6_run_8 : tX6_run_8.all (am_okE cX6_run) = true := by decide +kernel
def tX6_run_9 : List am_En := [(144, .iconst 1, 145, []), (145, .goto 4, 148, [149]), (148, .iconst 0, 149, []), (149, .istore 10, 151, []), (151, .aload_n 0, 152, []), (152, .getfield 9, 155, []), (155, .iload 6, 157, []), (157, .iinc 6 1, 160, [])]
theorem kX6_run_9 : tX6_run_9.all (am_okE cX6_run) = true := by decide +kernel
def tX6_run_10 : List am_En := [(160, .aload 4, 162, []), (162, .iload 9, 164, []), (164, .iaload, 165, []), (165, .iconst 1, 166, []), (166, .if_icmp .ne 8, 169, [174]), (169, .iload 10, 171, []), (171, .goto 23, 174, [194]), (174, .aload 4, 176, [])]
theorem kX6_run_10 : tX6_run_10.all (am_okE cX6_run) = true := by decide +kernel
def tX6_run_11 : List am_En := [(176, .iload 9, 178, []), (178, .iconst 1, 179, []), (179, .iadd, 180, []), (180, .iaload, 181, []), (181, .iconst 1, 182, []), (182, .if_icmp .ne 8, 185, [190]), (185, .ldc 15, 187, []), (187, .goto 7, 190, [194]), (190, .iconst 1, 191, []), (191, .iload 10, 193, [])]
theorem kX6_run_11 : tX6_run_11.all (am_okE cX6_run) = true := by decide +kernel
def tX6_run_12 : List am_En := [(193, .isub, 194, []), (194, .iastore, 195, []), (195, .goto 166, 198, [361]), (198, .aload_n 0, 199, []), (199, .getfield 9, 202, []), (202, .iload 6, 204, []), (204, .iconst 1, 205, []), (205, .isub, 206, []), (206, .aload_n 0, 207, []), (207, .getfield 9, 210, [])]
theorem kX6_run_12 : tX6_run_12.all (am_okE cX6_run) = true := by decide +kernel
def tX6_run_13 : List am_En := [(210, .iload 6, 212, []), (212, .iconst 1, 213, []), (213, .isub, 214, []), (214, .iaload, 215, []), (215, .ldc 15, 217, []), (217, .if_icmp .ne 7, 220, [224]), (220, .iconst 1, 221, []), (221, .goto 4, 224, [225])]
theorem kX6_run_13 : tX6_run_13.all (am_okE cX6_run) = true := by decide +kernel
def tX6_run_14 : List am_En := [(224, .iconst 0, 225, []), (225, .invokestatic 16, 228, []), (228, .iastore, 229, []), (229, .goto 132, 232, [361]), (232, .aload_n 0, 233, []), (233, .getfield 9, 236, []), (236, .iload 6, 238, []), (238, .iconst 1, 239, []), (239, .isub, 240, [])]
theorem kX6_run_14 : tX6_run_14.all (am_okE cX6_run) = true := by decide +kernel
def tX6_run_15 : List am_En := [(240, .aload_n 0, 241, []), (241, .getfield 9, 244, []), (244, .iload 6, 246, []), (246, .iconst 1, 247, []), (247, .isub, 248, []), (248, .iaload, 249, []), (249, .ldc 15, 251, []), (251, .if_icmp .ne 8, 254, [259]), (254, .ldc 15, 256, [])]
theorem kX6_run_15 : tX6_run_15.all (am_okE cX6_run) = true := by decide +kernel
def tX6_run_16 : List am_En := [(256, .goto 14, 259, [270]), (259, .iconst 1, 260, []), (260, .aload_n 0, 261, []), (261, .getfield 9, 264, []), (264, .iload 6, 266, []), (266, .iconst 1, 267, []), (267, .isub, 268, []), (268, .iaload, 269, []), (269, .isub, 270, []), (270, .iastore, 271, []), (271, .goto 90, 274, [361])]
theorem kX6_run_16 : tX6_run_16.all (am_okE cX6_run) = true := by decide +kernel
def tX6_run_17 : List am_En := [(274, .iinc 6 (-1), 277, []), (277, .aload_n 0, 278, []), (278, .getfield 9, 281, []), (281, .iload 6, 283, []), (283, .iconst 1, 284, []), (284, .isub, 285, []), (285, .iaload, 286, []), (286, .istore 11, 288, [])]
theorem kX6_run_17 : tX6_run_17.all (am_okE cX6_run) = true := by decide +kernel
def tX6_run_18 : List am_En := [(288, .aload_n 0, 289, []), (289, .getfield 9, 292, []), (292, .iload 6, 294, []), (294, .iaload, 295, []), (295, .istore 12, 297, []), (297, .aload_n 0, 298, []), (298, .getfield 9, 301, []), (301, .iload 6, 303, []), (303, .iconst 1, 304, [])]
theorem kX6_run_18 : tX6_run_18.all (am_okE cX6_run) = true := by decide +kernel
def tX6_run_19 : List am_En := [(304, .isub, 305, []), (305, .iload 8, 307, []), (307, .bipush 16, 309, []), (309, .if_icmp .lt 18, 312, [327]), (312, .iload 8, 314, []), (314, .bipush 16, 316, []), (316, .isub, 317, []), (317, .iload 11, 319, []), (319, .iload 12, 321, [])]
theorem kX6_run_19 : tX6_run_19.all (am_okE cX6_run) = true := by decide +kernel
def tX6_run_20 : List am_En := [(321, .invokestatic 24, 324, []), (324, .goto 36, 327, [360]), (327, .iload 8, 329, []), (329, .bipush 8, 331, []), (331, .if_icmp .lt 18, 334, [349]), (334, .iload 8, 336, [])]
theorem kX6_run_20 : tX6_run_20.all (am_okE cX6_run) = true := by decide +kernel
def tX6_run_21 : List am_En := [(336, .bipush 8, 338, []), (338, .isub, 339, []), (339, .iload 11, 341, []), (341, .iload 12, 343, []), (343, .invokestatic 27, 346, []), (346, .goto 14, 349, [360]), (349, .iload 8, 351, []), (351, .iconst 5, 352, [])]
theorem kX6_run_21 : tX6_run_21.all (am_okE cX6_run) = true := by decide +kernel
def tX6_run_22 : List am_En := [(352, .isub, 353, []), (353, .iload 11, 355, []), (355, .iload 12, 357, []), (357, .invokestatic 30, 360, []), (360, .iastore, 361, []), (361, .iinc 7 1, 364, []), (364, .goto (-358), 367, [6]), (367, .aload_n 0, 368, [])]
theorem kX6_run_22 : tX6_run_22.all (am_okE cX6_run) = true := by decide +kernel
def tX6_run_23 : List am_En := [(368, .getfield 9, 371, []), (371, .iconst 0, 372, []), (372, .iaload, 373, []), (373, .ireturn, 374, [])]
theorem kX6_run_23 : tX6_run_23.all (am_okE cX6_run) = true := by decide +kernel
def tX6_run : List (List am_En) := [tX6_run_0, tX6_run_1, tX6_run_2, tX6_run_3, tX6_run_4, tX6_run_5, tX6_run_6, tX6_run_7, tX6_run_8, tX6_run_9, tX6_run_10, tX6_run_11, tX6_run_12, tX6_run_13, tX6_run_14, tX6_run_15, tX6_run_16, tX6_run_17, tX6_run_18, tX6_run_19, tX6_run_20, tX6_run_21, tX6_run_22, tX6_run_23]
def mX6_run : am_MR := (yX6_run, cX6_run, 13, (some .int), 6, 5, (0, 0), tX6_run)
theorem kX6_run : am_chk cX6_run tX6_run = true := am_chk_c kX6_run_0 (am_chk_c kX6_run_1 (am_chk_c kX6_run_2 (am_chk_c kX6_run_3 (am_chk_c kX6_run_4 (am_chk_c kX6_run_5 (am_chk_c kX6_run_6 (am_chk_c kX6_run_7 (am_chk_c kX6_run_8 (am_chk_c kX6_run_9 (am_chk_c kX6_run_10 (am_chk_c kX6_run_11 (am_chk_c kX6_run_12 (am_chk_c kX6_run_13 (am_chk_c kX6_run_14 (am_chk_c kX6_run_15 (am_chk_c kX6_run_16 (am_chk_c kX6_run_17 (am_chk_c kX6_run_18 (am_chk_c kX6_run_19 (am_chk_c kX6_run_20 (am_chk_c kX6_run_21 (am_chk_c kX6_run_22 (am_chk_c kX6_run_23 (rfl))))))))))))))))))))))))
def tX6_asTruth_0 : List am_En := [(0, .iload_n 0, 1, []), (1, .ifCond .eq 7, 4, [8]), (4, .iconst 1, 5, []), (5, .goto 4, 8, [9]), (8, .iconst 0, 9, []), (9, .ireturn, 10, [])]
theorem kX6_asTruth_0 : tX6_asTruth_0.all (am_okE cX6_asTruth) = true := by decide +kernel
def tX6_asTruth : List (List am_En) := [tX6_asTruth_0]
def mX6_asTruth : am_MR := (yX6_asTruth, cX6_asTruth, 1, (some .int), 6, 1, (0, 0), tX6_asTruth)
theorem kX6_asTruth : am_chk cX6_asTruth tX6_asTruth = true := am_chk_c kX6_asTruth_0 (rfl)
def tX6_test_0 : List am_En := [(0, .iload_n 0, 1, []), (1, .iconst 5, 2, []), (2, .irem, 3, []), (3, .iload_n 1, 4, []), (4, .iload_n 2, 5, []), (5, .invokestatic 20, 8, []), (8, .istore_n 3, 9, []), (9, .iload_n 0, 10, []), (10, .iconst 5, 11, []), (11, .if_icmp .ge 7, 14, [18]), (14, .iload_n 3, 15, []), (15, .goto 38, 18, [53])]
theorem kX6_test_0 : tX6_test_0.all (am_okE cX6_test) = true := by decide +kernel
def tX6_test_1 : List am_En := [(18, .iload_n 0, 19, []), (19, .bipush 10, 21, []), (21, .if_icmp .ge 18, 24, [39]), (24, .iload_n 3, 25, []), (25, .ifCond .ne 7, 28, [32]), (28, .iconst 1, 29, []), (29, .goto 4, 32, [33])]
theorem kX6_test_1 : tX6_test_1.all (am_okE cX6_test) = true := by decide +kernel
def tX6_test_2 : List am_En := [(32, .iconst 0, 33, []), (33, .invokestatic 16, 36, []), (36, .goto 17, 39, [53]), (39, .iload_n 3, 40, []), (40, .ldc 15, 42, []), (42, .if_icmp .ne 7, 45, [49]), (45, .iconst 1, 46, []), (46, .goto 4, 49, [50])]
theorem kX6_test_2 : tX6_test_2.all (am_okE cX6_test) = true := by decide +kernel
def tX6_test_3 : List am_En := [(49, .iconst 0, 50, []), (50, .invokestatic 16, 53, []), (53, .ireturn, 54, [])]
theorem kX6_test_3 : tX6_test_3.all (am_okE cX6_test) = true := by decide +kernel
def tX6_test : List (List am_En) := [tX6_test_0, tX6_test_1, tX6_test_2, tX6_test_3]
def mX6_test : am_MR := (yX6_test, cX6_test, 4, (some .int), 6, 3, (0, 0), tX6_test)
theorem kX6_test : am_chk cX6_test tX6_test = true := am_chk_c kX6_test_0 (am_chk_c kX6_test_1 (am_chk_c kX6_test_2 (am_chk_c kX6_test_3 (rfl))))
def tX6_compare_0 : List am_En := [(0, .iload_n 0, 1, []), (1, .iconst 4, 2, []), (2, .if_icmp .ge 18, 5, [20]), (5, .iload_n 1, 6, []), (6, .ldc 15, 8, []), (8, .if_icmp .eq 9, 11, [17]), (11, .iload_n 2, 12, []), (12, .ldc 15, 14, []), (14, .if_icmp .ne 6, 17, [20])]
theorem kX6_compare_0 : tX6_compare_0.all (am_okE cX6_compare) = true := by decide +kernel
def tX6_compare_1 : List am_En := [(17, .ldc 15, 19, []), (19, .ireturn, 20, []), (20, .iload_n 0, 21, []), (21, .ifCond .eq 8, 24, [29]), (24, .iload_n 0, 25, []), (25, .iconst 4, 26, []), (26, .if_icmp .ne 16, 29, [42]), (29, .iload_n 1, 30, []), (30, .iload_n 2, 31, []), (31, .if_icmp .ne 7, 34, [38])]
theorem kX6_compare_1 : tX6_compare_1.all (am_okE cX6_compare) = true := by decide +kernel
def tX6_compare_2 : List am_En := [(34, .iconst 1, 35, []), (35, .goto 53, 38, [88]), (38, .iconst 0, 39, []), (39, .goto 49, 42, [88]), (42, .iload_n 0, 43, []), (43, .iconst 1, 44, []), (44, .if_icmp .ne 16, 47, [60]), (47, .iload_n 1, 48, [])]
theorem kX6_compare_2 : tX6_compare_2.all (am_okE cX6_compare) = true := by decide +kernel
def tX6_compare_3 : List am_En := [(48, .iload_n 2, 49, []), (49, .if_icmp .eq 7, 52, [56]), (52, .iconst 1, 53, []), (53, .goto 35, 56, [88]), (56, .iconst 0, 57, []), (57, .goto 31, 60, [88]), (60, .iload_n 0, 61, []), (61, .iconst 2, 62, []), (62, .if_icmp .ne 16, 65, [78])]
theorem kX6_compare_3 : tX6_compare_3.all (am_okE cX6_compare) = true := by decide +kernel
def tX6_compare_4 : List am_En := [(65, .iload_n 1, 66, []), (66, .iload_n 2, 67, []), (67, .if_icmp .ge 7, 70, [74]), (70, .iconst 1, 71, []), (71, .goto 17, 74, [88]), (74, .iconst 0, 75, []), (75, .goto 13, 78, [88]), (78, .iload_n 1, 79, []), (79, .iload_n 2, 80, [])]
theorem kX6_compare_4 : tX6_compare_4.all (am_okE cX6_compare) = true := by decide +kernel
def tX6_compare_5 : List am_En := [(80, .if_icmp .gt 7, 83, [87]), (83, .iconst 1, 84, []), (84, .goto 4, 87, [88]), (87, .iconst 0, 88, []), (88, .invokestatic 16, 91, []), (91, .ireturn, 92, [])]
theorem kX6_compare_5 : tX6_compare_5.all (am_okE cX6_compare) = true := by decide +kernel
def tX6_compare : List (List am_En) := [tX6_compare_0, tX6_compare_1, tX6_compare_2, tX6_compare_3, tX6_compare_4, tX6_compare_5]
def mX6_compare : am_MR := (yX6_compare, cX6_compare, 3, (some .int), 6, 3, (0, 0), tX6_compare)
theorem kX6_compare : am_chk cX6_compare tX6_compare = true := am_chk_c kX6_compare_0 (am_chk_c kX6_compare_1 (am_chk_c kX6_compare_2 (am_chk_c kX6_compare_3 (am_chk_c kX6_compare_4 (am_chk_c kX6_compare_5 (rfl))))))
def tX6_logic_0 : List am_En := [(0, .iload_n 0, 1, []), (1, .ifCond .ne 7, 4, [8]), (4, .iconst 0, 5, []), (5, .goto 4, 8, [9]), (8, .iconst 1, 9, []), (9, .istore_n 3, 10, []), (10, .iload_n 1, 11, []), (11, .iload_n 3, 12, []), (12, .if_icmp .eq 8, 15, [20]), (15, .iload_n 2, 16, [])]
theorem kX6_logic_0 : tX6_logic_0.all (am_okE cX6_logic) = true := by decide +kernel
def tX6_logic_1 : List am_En := [(16, .iload_n 3, 17, []), (17, .if_icmp .ne 7, 20, [24]), (20, .iload_n 3, 21, []), (21, .goto 23, 24, [44]), (24, .iload_n 1, 25, []), (25, .ldc 15, 27, []), (27, .if_icmp .eq 9, 30, [36]), (30, .iload_n 2, 31, []), (31, .ldc 15, 33, [])]
theorem kX6_logic_1 : tX6_logic_1.all (am_okE cX6_logic) = true := by decide +kernel
def tX6_logic_2 : List am_En := [(33, .if_icmp .ne 8, 36, [41]), (36, .ldc 15, 38, []), (38, .goto 6, 41, [44]), (41, .iconst 1, 42, []), (42, .iload_n 3, 43, []), (43, .isub, 44, []), (44, .ireturn, 45, [])]
theorem kX6_logic_2 : tX6_logic_2.all (am_okE cX6_logic) = true := by decide +kernel
def tX6_logic : List (List am_En) := [tX6_logic_0, tX6_logic_1, tX6_logic_2]
def mX6_logic : am_MR := (yX6_logic, cX6_logic, 4, (some .int), 6, 3, (0, 0), tX6_logic)
theorem kX6_logic : am_chk cX6_logic tX6_logic = true := am_chk_c kX6_logic_0 (am_chk_c kX6_logic_1 (am_chk_c kX6_logic_2 (rfl)))
def tX6_reckon_0 : List am_En := [(0, .iload_n 1, 1, []), (1, .ldc 15, 3, []), (3, .if_icmp .eq 9, 6, [12]), (6, .iload_n 2, 7, []), (7, .ldc 15, 9, []), (9, .if_icmp .ne 8, 12, [17]), (12, .ldc 15, 14, []), (14, .goto 27, 17, [41])]
theorem kX6_reckon_0 : tX6_reckon_0.all (am_okE cX6_reckon) = true := by decide +kernel
def tX6_reckon_1 : List am_En := [(17, .iload_n 0, 18, []), (18, .ifCond .ne 9, 21, [27]), (21, .iload_n 1, 22, []), (22, .iload_n 2, 23, []), (23, .iadd, 24, []), (24, .goto 17, 27, [41]), (27, .iload_n 0, 28, []), (28, .iconst 1, 29, []), (29, .if_icmp .ne 9, 32, [38])]
theorem kX6_reckon_1 : tX6_reckon_1.all (am_okE cX6_reckon) = true := by decide +kernel
def tX6_reckon_2 : List am_En := [(32, .iload_n 1, 33, []), (33, .iload_n 2, 34, []), (34, .isub, 35, []), (35, .goto 6, 38, [41]), (38, .iload_n 1, 39, []), (39, .iload_n 2, 40, []), (40, .imul, 41, []), (41, .ireturn, 42, [])]
theorem kX6_reckon_2 : tX6_reckon_2.all (am_okE cX6_reckon) = true := by decide +kernel
def tX6_reckon : List (List am_En) := [tX6_reckon_0, tX6_reckon_1, tX6_reckon_2]
def mX6_reckon : am_MR := (yX6_reckon, cX6_reckon, 3, (some .int), 6, 3, (0, 0), tX6_reckon)
theorem kX6_reckon : am_chk cX6_reckon tX6_reckon = true := am_chk_c kX6_reckon_0 (am_chk_c kX6_reckon_1 (am_chk_c kX6_reckon_2 (rfl)))
def tX7_init_0 : List am_En := [(0, .aload_n 0, 1, []), (1, .invokespecial 3, 4, []), (4, .aload_n 0, 5, []), (5, .sipush 4096, 8, []), (8, .newarray .int, 10, []), (10, .putfield 11, 13, []), (13, .aload_n 0, 14, []), (14, .sipush 8192, 17, [])]
theorem kX7_init_0 : tX7_init_0.all (am_okE cX7_init) = true := by decide +kernel
def tX7_init_1 : List am_En := [(17, .newarray .int, 19, []), (19, .putfield 15, 22, []), (22, .aload_n 0, 23, []), (23, .sipush 8192, 26, []), (26, .newarray .int, 28, []), (28, .putfield 18, 31, []), (31, .aload_n 0, 32, [])]
theorem kX7_init_1 : tX7_init_1.all (am_okE cX7_init) = true := by decide +kernel
def tX7_init_2 : List am_En := [(32, .sipush 8192, 35, []), (35, .newarray .int, 37, []), (37, .putfield 21, 40, []), (40, .aload_n 0, 41, []), (41, .sipush 8192, 44, []), (44, .newarray .int, 46, []), (46, .putfield 24, 49, [])]
theorem kX7_init_2 : tX7_init_2.all (am_okE cX7_init) = true := by decide +kernel
def tX7_init_3 : List am_En := [(49, .aload_n 0, 50, []), (50, .sipush 8192, 53, []), (53, .newarray .int, 55, []), (55, .putfield 27, 58, []), (58, .return_, 59, [])]
theorem kX7_init_3 : tX7_init_3.all (am_okE cX7_init) = true := by decide +kernel
def tX7_init : List (List am_En) := [tX7_init_0, tX7_init_1, tX7_init_2, tX7_init_3]
def mX7_init : am_MR := (yX7_init, cX7_init, 1, none, 7, 0, (6, 45056), tX7_init)
theorem kX7_init : am_chk cX7_init tX7_init = true := am_chk_c kX7_init_0 (am_chk_c kX7_init_1 (am_chk_c kX7_init_2 (am_chk_c kX7_init_3 (rfl))))
def tX7_begin_0 : List am_En := [(0, .aload_n 0, 1, []), (1, .aload_n 1, 2, []), (2, .putfield 30, 5, []), (5, .aload_n 0, 6, []), (6, .iload_n 2, 7, []), (7, .putfield 33, 10, []), (10, .aload_n 0, 11, []), (11, .iload_n 3, 12, []), (12, .putfield 37, 15, []), (15, .aload_n 0, 16, [])]
theorem kX7_begin_0 : tX7_begin_0.all (am_okE cX7_begin) = true := by decide +kernel
def tX7_begin_1 : List am_En := [(16, .aload 4, 18, []), (18, .putfield 40, 21, []), (21, .aload_n 0, 22, []), (22, .iload 5, 24, []), (24, .putfield 43, 27, []), (27, .aload_n 0, 28, []), (28, .iload 6, 30, []), (30, .putfield 46, 33, [])]
theorem kX7_begin_1 : tX7_begin_1.all (am_okE cX7_begin) = true := by decide +kernel
def tX7_begin_2 : List am_En := [(33, .aload_n 0, 34, []), (34, .iconst 0, 35, []), (35, .putfield 49, 38, []), (38, .iconst 0, 39, []), (39, .istore 7, 41, []), (41, .iload 7, 43, []), (43, .sipush 4096, 46, []), (46, .if_icmp .ge 17, 49, [63])]
theorem kX7_begin_2 : tX7_begin_2.all (am_okE cX7_begin) = true := by decide +kernel
def tX7_begin_3 : List am_En := [(49, .aload_n 0, 50, []), (50, .getfield 11, 53, []), (53, .iload 7, 55, []), (55, .iconst (-1), 56, []), (56, .iastore, 57, []), (57, .iinc 7 1, 60, []), (60, .goto (-19), 63, [41]), (63, .return_, 64, [])]
theorem kX7_begin_3 : tX7_begin_3.all (am_okE cX7_begin) = true := by decide +kernel
def tX7_begin : List (List am_En) := [tX7_begin_0, tX7_begin_1, tX7_begin_2, tX7_begin_3]
def mX7_begin : am_MR := (yX7_begin, cX7_begin, 8, none, 7, 6, (0, 0), tX7_begin)
theorem kX7_begin : am_chk cX7_begin tX7_begin = true := am_chk_c kX7_begin_0 (am_chk_c kX7_begin_1 (am_chk_c kX7_begin_2 (am_chk_c kX7_begin_3 (rfl))))
def tX7_add_0 : List am_En := [(0, .aload_n 0, 1, []), (1, .getfield 33, 4, []), (4, .iload_n 1, 5, []), (5, .aload_n 0, 6, []), (6, .getfield 37, 9, []), (9, .imul, 10, []), (10, .iadd, 11, []), (11, .istore_n 2, 12, []), (12, .aload_n 0, 13, []), (13, .aload_n 0, 14, []), (14, .getfield 30, 17, [])]
theorem kX7_add_0 : tX7_add_0.all (am_okE cX7_add) = true := by decide +kernel
def tX7_add_1 : List am_En := [(17, .iload_n 2, 18, []), (18, .aload_n 0, 19, []), (19, .getfield 40, 22, []), (22, .aload_n 0, 23, []), (23, .getfield 43, 26, []), (26, .invokevirtual 60, 29, []), (29, .istore_n 3, 30, []), (30, .aload_n 0, 31, []), (31, .getfield 27, 34, [])]
theorem kX7_add_1 : tX7_add_1.all (am_okE cX7_add) = true := by decide +kernel
def tX7_add_2 : List am_En := [(34, .iload_n 1, 35, []), (35, .iconst (-1), 36, []), (36, .iastore, 37, []), (37, .iload_n 3, 38, []), (38, .ifCond .ge 72, 41, [110]), (41, .aload_n 0, 42, []), (42, .dup, 43, []), (43, .getfield 49, 46, []), (46, .dup_x1, 47, []), (47, .iconst 1, 48, [])]
theorem kX7_add_2 : tX7_add_2.all (am_okE cX7_add) = true := by decide +kernel
def tX7_add_3 : List am_En := [(48, .iadd, 49, []), (49, .putfield 49, 52, []), (52, .istore_n 3, 53, []), (53, .aload_n 0, 54, []), (54, .aload_n 0, 55, []), (55, .getfield 30, 58, []), (58, .iload_n 2, 59, []), (59, .aload_n 0, 60, []), (60, .getfield 40, 63, []), (63, .aload_n 0, 64, [])]
theorem kX7_add_3 : tX7_add_3.all (am_okE cX7_add) = true := by decide +kernel
def tX7_add_4 : List am_En := [(64, .getfield 43, 67, []), (67, .invokevirtual 52, 70, []), (70, .istore 4, 72, []), (72, .aload_n 0, 73, []), (73, .getfield 15, 76, []), (76, .iload_n 3, 77, []), (77, .aload_n 0, 78, []), (78, .getfield 11, 81, [])]
theorem kX7_add_4 : tX7_add_4.all (am_okE cX7_add) = true := by decide +kernel
def tX7_add_5 : List am_En := [(81, .iload 4, 83, []), (83, .iaload, 84, []), (84, .iastore, 85, []), (85, .aload_n 0, 86, []), (86, .getfield 11, 89, []), (89, .iload 4, 91, []), (91, .iload_n 3, 92, []), (92, .iastore, 93, []), (93, .aload_n 0, 94, []), (94, .getfield 18, 97, [])]
theorem kX7_add_5 : tX7_add_5.all (am_okE cX7_add) = true := by decide +kernel
def tX7_add_6 : List am_En := [(97, .iload_n 3, 98, []), (98, .iload_n 1, 99, []), (99, .iastore, 100, []), (100, .aload_n 0, 101, []), (101, .getfield 24, 104, []), (104, .iload_n 3, 105, []), (105, .iconst 0, 106, []), (106, .iastore, 107, []), (107, .goto 15, 110, [122]), (110, .aload_n 0, 111, []), (111, .getfield 27, 114, [])]
theorem kX7_add_6 : tX7_add_6.all (am_okE cX7_add) = true := by decide +kernel
def tX7_add_7 : List am_En := [(114, .aload_n 0, 115, []), (115, .getfield 21, 118, []), (118, .iload_n 3, 119, []), (119, .iaload, 120, []), (120, .iload_n 1, 121, []), (121, .iastore, 122, []), (122, .aload_n 0, 123, []), (123, .getfield 21, 126, []), (126, .iload_n 3, 127, []), (127, .iload_n 1, 128, [])]
theorem kX7_add_7 : tX7_add_7.all (am_okE cX7_add) = true := by decide +kernel
def tX7_add_8 : List am_En := [(128, .iastore, 129, []), (129, .aload_n 0, 130, []), (130, .getfield 24, 133, []), (133, .iload_n 3, 134, []), (134, .dup2, 135, []), (135, .iaload, 136, []), (136, .iconst 1, 137, []), (137, .iadd, 138, []), (138, .iastore, 139, []), (139, .iload_n 3, 140, []), (140, .ireturn, 141, [])]
theorem kX7_add_8 : tX7_add_8.all (am_okE cX7_add) = true := by decide +kernel
def tX7_add : List (List am_En) := [tX7_add_0, tX7_add_1, tX7_add_2, tX7_add_3, tX7_add_4, tX7_add_5, tX7_add_6, tX7_add_7, tX7_add_8]
def mX7_add : am_MR := (yX7_add, cX7_add, 5, (some .int), 7, 1, (0, 0), tX7_add)
theorem kX7_add : am_chk cX7_add tX7_add = true := am_chk_c kX7_add_0 (am_chk_c kX7_add_1 (am_chk_c kX7_add_2 (am_chk_c kX7_add_3 (am_chk_c kX7_add_4 (am_chk_c kX7_add_5 (am_chk_c kX7_add_6 (am_chk_c kX7_add_7 (am_chk_c kX7_add_8 (rfl)))))))))
def tX7_find_0 : List am_En := [(0, .aload_n 0, 1, []), (1, .getfield 11, 4, []), (4, .aload_n 0, 5, []), (5, .aload_n 1, 6, []), (6, .iload_n 2, 7, []), (7, .aload_n 3, 8, []), (8, .iload 4, 10, []), (10, .invokevirtual 52, 13, []), (13, .iaload, 14, []), (14, .istore 5, 16, [])]
theorem kX7_find_0 : tX7_find_0.all (am_okE cX7_find) = true := by decide +kernel
def tX7_find_1 : List am_En := [(16, .iload 5, 18, []), (18, .ifCond .lt 29, 21, [47]), (21, .aload_n 0, 22, []), (22, .iload 5, 24, []), (24, .aload_n 1, 25, []), (25, .iload_n 2, 26, []), (26, .aload_n 3, 27, []), (27, .iload 4, 29, []), (29, .invokevirtual 56, 32, [])]
theorem kX7_find_1 : tX7_find_1.all (am_okE cX7_find) = true := by decide +kernel
def tX7_find_2 : List am_En := [(32, .ifCond .ne 15, 35, [47]), (35, .aload_n 0, 36, []), (36, .getfield 15, 39, []), (39, .iload 5, 41, []), (41, .iaload, 42, []), (42, .istore 5, 44, []), (44, .goto (-28), 47, [16]), (47, .iload 5, 49, [])]
theorem kX7_find_2 : tX7_find_2.all (am_okE cX7_find) = true := by decide +kernel
def tX7_find_3 : List am_En := [(49, .ireturn, 50, [])]
theorem kX7_find_3 : tX7_find_3.all (am_okE cX7_find) = true := by decide +kernel
def tX7_find : List (List am_En) := [tX7_find_0, tX7_find_1, tX7_find_2, tX7_find_3]
def mX7_find : am_MR := (yX7_find, cX7_find, 6, (some .int), 7, 4, (0, 0), tX7_find)
theorem kX7_find : am_chk cX7_find tX7_find = true := am_chk_c kX7_find_0 (am_chk_c kX7_find_1 (am_chk_c kX7_find_2 (am_chk_c kX7_find_3 (rfl))))
def tX7_hash_0 : List am_En := [(0, .bipush 17, 2, []), (2, .istore 5, 4, []), (4, .iconst 0, 5, []), (5, .istore 6, 7, []), (7, .iload 6, 9, []), (9, .aload_n 0, 10, []), (10, .getfield 46, 13, []), (13, .if_icmp .ge 28, 16, [41])]
theorem kX7_hash_0 : tX7_hash_0.all (am_okE cX7_hash) = true := by decide +kernel
def tX7_hash_1 : List am_En := [(16, .iload 5, 18, []), (18, .bipush 31, 20, []), (20, .imul, 21, []), (21, .aload_n 1, 22, []), (22, .iload_n 2, 23, []), (23, .aload_n 3, 24, []), (24, .iload 4, 26, []), (26, .iload 6, 28, []), (28, .iadd, 29, []), (29, .iaload, 30, []), (30, .iadd, 31, []), (31, .iaload, 32, [])]
theorem kX7_hash_1 : tX7_hash_1.all (am_okE cX7_hash) = true := by decide +kernel
def tX7_hash_2 : List am_En := [(32, .iadd, 33, []), (33, .istore 5, 35, []), (35, .iinc 6 1, 38, []), (38, .goto (-31), 41, [7]), (41, .iload 5, 43, []), (43, .iload 5, 45, []), (45, .bipush 12, 47, []), (47, .iushr, 48, [])]
theorem kX7_hash_2 : tX7_hash_2.all (am_okE cX7_hash) = true := by decide +kernel
def tX7_hash_3 : List am_En := [(48, .ixor, 49, []), (49, .iload 5, 51, []), (51, .bipush 22, 53, []), (53, .iushr, 54, []), (54, .ixor, 55, []), (55, .sipush 4095, 58, []), (58, .iand, 59, []), (59, .ireturn, 60, [])]
theorem kX7_hash_3 : tX7_hash_3.all (am_okE cX7_hash) = true := by decide +kernel
def tX7_hash : List (List am_En) := [tX7_hash_0, tX7_hash_1, tX7_hash_2, tX7_hash_3]
def mX7_hash : am_MR := (yX7_hash, cX7_hash, 7, (some .int), 7, 4, (0, 0), tX7_hash)
theorem kX7_hash : am_chk cX7_hash tX7_hash = true := am_chk_c kX7_hash_0 (am_chk_c kX7_hash_1 (am_chk_c kX7_hash_2 (am_chk_c kX7_hash_3 (rfl))))
def tX7_isKey_0 : List am_En := [(0, .aload_n 0, 1, []), (1, .getfield 33, 4, []), (4, .aload_n 0, 5, []), (5, .getfield 18, 8, []), (8, .iload_n 1, 9, []), (9, .iaload, 10, []), (10, .aload_n 0, 11, []), (11, .getfield 37, 14, []), (14, .imul, 15, []), (15, .iadd, 16, [])]
theorem kX7_isKey_0 : tX7_isKey_0.all (am_okE cX7_isKey) = true := by decide +kernel
def tX7_isKey_1 : List am_En := [(16, .istore 6, 18, []), (18, .iconst 1, 19, []), (19, .istore 7, 21, []), (21, .iconst 0, 22, []), (22, .istore 8, 24, []), (24, .iload 8, 26, []), (26, .aload_n 0, 27, []), (27, .getfield 46, 30, []), (30, .if_icmp .ge 56, 33, [86])]
theorem kX7_isKey_1 : tX7_isKey_1.all (am_okE cX7_isKey) = true := by decide +kernel
def tX7_isKey_2 : List am_En := [(33, .iload 7, 35, []), (35, .ifCond .eq 51, 38, [86]), (38, .aload_n 0, 39, []), (39, .getfield 30, 42, []), (42, .iload 6, 44, []), (44, .aload_n 0, 45, []), (45, .getfield 40, 48, [])]
theorem kX7_isKey_2 : tX7_isKey_2.all (am_okE cX7_isKey) = true := by decide +kernel
def tX7_isKey_3 : List am_En := [(48, .aload_n 0, 49, []), (49, .getfield 43, 52, []), (52, .iload 8, 54, []), (54, .iadd, 55, []), (55, .iaload, 56, []), (56, .iadd, 57, []), (57, .iaload, 58, []), (58, .aload_n 2, 59, []), (59, .iload_n 3, 60, []), (60, .aload 4, 62, []), (62, .iload 5, 64, [])]
theorem kX7_isKey_3 : tX7_isKey_3.all (am_okE cX7_isKey) = true := by decide +kernel
def tX7_isKey_4 : List am_En := [(64, .iload 8, 66, []), (66, .iadd, 67, []), (67, .iaload, 68, []), (68, .iadd, 69, []), (69, .iaload, 70, []), (70, .if_icmp .ne 7, 73, [77]), (73, .iconst 1, 74, []), (74, .goto 4, 77, [78]), (77, .iconst 0, 78, []), (78, .istore 7, 80, [])]
theorem kX7_isKey_4 : tX7_isKey_4.all (am_okE cX7_isKey) = true := by decide +kernel
def tX7_isKey_5 : List am_En := [(80, .iinc 8 1, 83, []), (83, .goto (-59), 86, [24]), (86, .iload 7, 88, []), (88, .ireturn, 89, [])]
theorem kX7_isKey_5 : tX7_isKey_5.all (am_okE cX7_isKey) = true := by decide +kernel
def tX7_isKey : List (List am_En) := [tX7_isKey_0, tX7_isKey_1, tX7_isKey_2, tX7_isKey_3, tX7_isKey_4, tX7_isKey_5]
def mX7_isKey : am_MR := (yX7_isKey, cX7_isKey, 9, (some .boolean), 7, 5, (0, 0), tX7_isKey)
theorem kX7_isKey : am_chk cX7_isKey tX7_isKey = true := am_chk_c kX7_isKey_0 (am_chk_c kX7_isKey_1 (am_chk_c kX7_isKey_2 (am_chk_c kX7_isKey_3 (am_chk_c kX7_isKey_4 (am_chk_c kX7_isKey_5 (rfl))))))
def tX8_init_0 : List am_En := [(0, .aload_n 0, 1, []), (1, .invokespecial 1, 4, []), (4, .aload_n 0, 5, []), (5, .bipush 6, 7, []), (7, .newarray .int, 9, []), (9, .putfield 7, 12, []), (12, .aload_n 0, 13, []), (13, .bipush 6, 15, []), (15, .newarray .int, 17, [])]
theorem kX8_init_0 : tX8_init_0.all (am_okE cX8_init) = true := by decide +kernel
def tX8_init_1 : List am_En := [(17, .putfield 13, 20, []), (20, .aload_n 0, 21, []), (21, .sipush 576, 24, []), (24, .newarray .int, 26, []), (26, .putfield 16, 29, []), (29, .aload_n 0, 30, []), (30, .bipush 120, 32, [])]
theorem kX8_init_1 : tX8_init_1.all (am_okE cX8_init) = true := by decide +kernel
def tX8_init_2 : List am_En := [(32, .newarray .int, 34, []), (34, .putfield 19, 37, []), (37, .aload_n 0, 38, []), (38, .bipush 120, 40, []), (40, .newarray .int, 42, []), (42, .putfield 22, 45, []), (45, .aload_n 0, 46, []), (46, .bipush 120, 48, [])]
theorem kX8_init_2 : tX8_init_2.all (am_okE cX8_init) = true := by decide +kernel
def tX8_init_3 : List am_En := [(48, .newarray .int, 50, []), (50, .putfield 25, 53, []), (53, .aload_n 0, 54, []), (54, .bipush 120, 56, []), (56, .newarray .int, 58, []), (58, .putfield 28, 61, []), (61, .aload_n 0, 62, []), (62, .bipush 120, 64, [])]
theorem kX8_init_3 : tX8_init_3.all (am_okE cX8_init) = true := by decide +kernel
def tX8_init_4 : List am_En := [(64, .newarray .int, 66, []), (66, .putfield 31, 69, []), (69, .aload_n 0, 70, []), (70, .bipush 120, 72, []), (72, .newarray .int, 74, []), (74, .putfield 34, 77, []), (77, .aload_n 0, 78, []), (78, .bipush 120, 80, [])]
theorem kX8_init_4 : tX8_init_4.all (am_okE cX8_init) = true := by decide +kernel
def tX8_init_5 : List am_En := [(80, .newarray .int, 82, []), (82, .putfield 37, 85, []), (85, .aload_n 0, 86, []), (86, .sipush 480, 89, []), (89, .newarray .int, 91, []), (91, .putfield 40, 94, []), (94, .aload_n 0, 95, []), (95, .bipush 120, 97, [])]
theorem kX8_init_5 : tX8_init_5.all (am_okE cX8_init) = true := by decide +kernel
def tX8_init_6 : List am_En := [(97, .newarray .long, 99, []), (99, .putfield 43, 102, []), (102, .aload_n 0, 103, []), (103, .bipush 120, 105, []), (105, .newarray .long, 107, []), (107, .putfield 47, 110, []), (110, .aload_n 0, 111, []), (111, .ldc 50, 113, [])]
theorem kX8_init_6 : tX8_init_6.all (am_okE cX8_init) = true := by decide +kernel
def tX8_init_7 : List am_En := [(113, .newarray .int, 115, []), (115, .putfield 51, 118, []), (118, .aload_n 0, 119, []), (119, .ldc 54, 121, []), (121, .newarray .int, 123, []), (123, .putfield 55, 126, []), (126, .aload_n 0, 127, []), (127, .sipush 130, 130, [])]
theorem kX8_init_7 : tX8_init_7.all (am_okE cX8_init) = true := by decide +kernel
def tX8_init_8 : List am_En := [(130, .newarray .int, 132, []), (132, .putfield 58, 135, []), (135, .return_, 136, [])]
theorem kX8_init_8 : tX8_init_8.all (am_okE cX8_init) = true := by decide +kernel
def tX8_init : List (List am_En) := [tX8_init_0, tX8_init_1, tX8_init_2, tX8_init_3, tX8_init_4, tX8_init_5, tX8_init_6, tX8_init_7, tX8_init_8]
def mX8_init : am_MR := (yX8_init, cX8_init, 1, none, 8, 0, (16, 642278), tX8_init)
theorem kX8_init : am_chk cX8_init tX8_init = true := am_chk_c kX8_init_0 (am_chk_c kX8_init_1 (am_chk_c kX8_init_2 (am_chk_c kX8_init_3 (am_chk_c kX8_init_4 (am_chk_c kX8_init_5 (am_chk_c kX8_init_6 (am_chk_c kX8_init_7 (am_chk_c kX8_init_8 (rfl)))))))))
def tX8_table_0 : List am_En := [(0, .aload_n 0, 1, []), (1, .getfield 61, 4, []), (4, .bipush 6, 6, []), (6, .if_icmp .eq 12, 9, [18]), (9, .iload_n 1, 10, []), (10, .iconst 1, 11, []), (11, .iconst 4, 12, []), (12, .invokestatic 65, 15, []), (15, .ifCond .ne 5, 18, [20])]
theorem kX8_table_0 : tX8_table_0.all (am_okE cX8_table) = true := by decide +kernel
def tX8_table_1 : List am_En := [(18, .iconst (-1), 19, []), (19, .ireturn, 20, []), (20, .aload_n 0, 21, []), (21, .getfield 7, 24, []), (24, .aload_n 0, 25, []), (25, .getfield 61, 28, []), (28, .iload_n 1, 29, []), (29, .iastore, 30, []), (30, .aload_n 0, 31, []), (31, .dup, 32, [])]
theorem kX8_table_1 : tX8_table_1.all (am_okE cX8_table) = true := by decide +kernel
def tX8_table_2 : List am_En := [(32, .getfield 61, 35, []), (35, .iconst 1, 36, []), (36, .iadd, 37, []), (37, .putfield 61, 40, []), (40, .aload_n 0, 41, []), (41, .getfield 61, 44, []), (44, .iconst 1, 45, []), (45, .isub, 46, []), (46, .ireturn, 47, [])]
theorem kX8_table_2 : tX8_table_2.all (am_okE cX8_table) = true := by decide +kernel
def tX8_table : List (List am_En) := [tX8_table_0, tX8_table_1, tX8_table_2]
def mX8_table : am_MR := (yX8_table, cX8_table, 2, (some .int), 8, 1, (0, 0), tX8_table)
theorem kX8_table : am_chk cX8_table tX8_table = true := am_chk_c kX8_table_0 (am_chk_c kX8_table_1 (am_chk_c kX8_table_2 (rfl)))
def tX8_isIn_0 : List am_En := [(0, .iload_n 0, 1, []), (1, .iload_n 1, 2, []), (2, .if_icmp .lt 12, 5, [14]), (5, .iload_n 0, 6, []), (6, .iload_n 2, 7, []), (7, .if_icmp .gt 7, 10, [14]), (10, .iconst 1, 11, []), (11, .goto 4, 14, [15]), (14, .iconst 0, 15, []), (15, .ireturn, 16, [])]
theorem kX8_isIn_0 : tX8_isIn_0.all (am_okE cX8_isIn) = true := by decide +kernel
def tX8_isIn : List (List am_En) := [tX8_isIn_0]
def mX8_isIn : am_MR := (yX8_isIn, cX8_isIn, 3, (some .boolean), 8, 3, (0, 0), tX8_isIn)
theorem kX8_isIn : am_chk cX8_isIn tX8_isIn = true := am_chk_c kX8_isIn_0 (rfl)
def tX8_row_0 : List am_En := [(0, .iload_n 1, 1, []), (1, .iconst 0, 2, []), (2, .aload_n 0, 3, []), (3, .getfield 61, 6, []), (6, .iconst 1, 7, []), (7, .isub, 8, []), (8, .invokestatic 65, 11, []), (11, .ifCond .eq 14, 14, [25]), (14, .aload_n 0, 15, []), (15, .getfield 13, 18, [])]
theorem kX8_row_0 : tX8_row_0.all (am_okE cX8_row) = true := by decide +kernel
def tX8_row_1 : List am_En := [(18, .iload_n 1, 19, []), (19, .iaload, 20, []), (20, .bipush 24, 22, []), (22, .if_icmp .ne 5, 25, [27]), (25, .iconst (-1), 26, []), (26, .ireturn, 27, []), (27, .bipush 96, 29, []), (29, .iload_n 1, 30, []), (30, .imul, 31, []), (31, .iconst 4, 32, [])]
theorem kX8_row_1 : tX8_row_1.all (am_okE cX8_row) = true := by decide +kernel
def tX8_row_2 : List am_En := [(32, .aload_n 0, 33, []), (33, .getfield 13, 36, []), (36, .iload_n 1, 37, []), (37, .iaload, 38, []), (38, .imul, 39, []), (39, .iadd, 40, []), (40, .istore 6, 42, []), (42, .aload_n 0, 43, []), (43, .getfield 16, 46, []), (46, .iload 6, 48, [])]
theorem kX8_row_2 : tX8_row_2.all (am_okE cX8_row) = true := by decide +kernel
def tX8_row_3 : List am_En := [(48, .iload_n 2, 49, []), (49, .iastore, 50, []), (50, .aload_n 0, 51, []), (51, .getfield 16, 54, []), (54, .iload 6, 56, []), (56, .iconst 1, 57, []), (57, .iadd, 58, []), (58, .iload_n 3, 59, []), (59, .iastore, 60, []), (60, .aload_n 0, 61, []), (61, .getfield 16, 64, [])]
theorem kX8_row_3 : tX8_row_3.all (am_okE cX8_row) = true := by decide +kernel
def tX8_row_4 : List am_En := [(64, .iload 6, 66, []), (66, .iconst 2, 67, []), (67, .iadd, 68, []), (68, .iload 4, 70, []), (70, .iastore, 71, []), (71, .aload_n 0, 72, []), (72, .getfield 16, 75, []), (75, .iload 6, 77, []), (77, .iconst 3, 78, []), (78, .iadd, 79, []), (79, .iload 5, 81, [])]
theorem kX8_row_4 : tX8_row_4.all (am_okE cX8_row) = true := by decide +kernel
def tX8_row_5 : List am_En := [(81, .iastore, 82, []), (82, .aload_n 0, 83, []), (83, .getfield 13, 86, []), (86, .iload_n 1, 87, []), (87, .dup2, 88, []), (88, .iaload, 89, []), (89, .iconst 1, 90, []), (90, .iadd, 91, []), (91, .iastore, 92, []), (92, .aload_n 0, 93, []), (93, .getfield 13, 96, [])]
theorem kX8_row_5 : tX8_row_5.all (am_okE cX8_row) = true := by decide +kernel
def tX8_row_6 : List am_En := [(96, .iload_n 1, 97, []), (97, .iaload, 98, []), (98, .ireturn, 99, [])]
theorem kX8_row_6 : tX8_row_6.all (am_okE cX8_row) = true := by decide +kernel
def tX8_row : List (List am_En) := [tX8_row_0, tX8_row_1, tX8_row_2, tX8_row_3, tX8_row_4, tX8_row_5, tX8_row_6]
def mX8_row : am_MR := (yX8_row, cX8_row, 7, (some .int), 8, 5, (0, 0), tX8_row)
theorem kX8_row : am_chk cX8_row tX8_row = true := am_chk_c kX8_row_0 (am_chk_c kX8_row_1 (am_chk_c kX8_row_2 (am_chk_c kX8_row_3 (am_chk_c kX8_row_4 (am_chk_c kX8_row_5 (am_chk_c kX8_row_6 (rfl)))))))
def tX8_empty_0 : List am_En := [(0, .iload_n 1, 1, []), (1, .iconst 0, 2, []), (2, .aload_n 0, 3, []), (3, .getfield 61, 6, []), (6, .iconst 1, 7, []), (7, .isub, 8, []), (8, .invokestatic 65, 11, []), (11, .ifCond .ne 5, 14, [16]), (14, .iconst (-1), 15, []), (15, .ireturn, 16, [])]
theorem kX8_empty_0 : tX8_empty_0.all (am_okE cX8_empty) = true := by decide +kernel
def tX8_empty_1 : List am_En := [(16, .aload_n 0, 17, []), (17, .getfield 13, 20, []), (20, .iload_n 1, 21, []), (21, .iaload, 22, []), (22, .istore_n 2, 23, []), (23, .aload_n 0, 24, []), (24, .getfield 13, 27, []), (27, .iload_n 1, 28, []), (28, .iconst 0, 29, []), (29, .iastore, 30, []), (30, .iload_n 2, 31, []), (31, .ireturn, 32, [])]
theorem kX8_empty_1 : tX8_empty_1.all (am_okE cX8_empty) = true := by decide +kernel
def tX8_empty : List (List am_En) := [tX8_empty_0, tX8_empty_1]
def mX8_empty : am_MR := (yX8_empty, cX8_empty, 3, (some .int), 8, 1, (0, 0), tX8_empty)
theorem kX8_empty : am_chk cX8_empty tX8_empty = true := am_chk_c kX8_empty_0 (am_chk_c kX8_empty_1 (rfl))
def tX8_constant_0 : List am_En := [(0, .aload_n 0, 1, []), (1, .getfield 69, 4, []), (4, .bipush 120, 6, []), (6, .if_icmp .ne 7, 9, [13]), (9, .iconst (-1), 10, []), (10, .goto 14, 13, [24]), (13, .aload_n 0, 14, []), (14, .iconst 0, 15, []), (15, .iconst 0, 16, [])]
theorem kX8_constant_0 : tX8_constant_0.all (am_okE cX8_constant) = true := by decide +kernel
def tX8_constant_1 : List am_En := [(16, .iconst 0, 17, []), (17, .iload_n 1, 18, []), (18, .iconst 0, 19, []), (19, .iconst 0, 20, []), (20, .iconst 0, 21, []), (21, .invokevirtual 72, 24, []), (24, .ireturn, 25, [])]
theorem kX8_constant_1 : tX8_constant_1.all (am_okE cX8_constant) = true := by decide +kernel
def tX8_constant : List (List am_En) := [tX8_constant_0, tX8_constant_1]
def mX8_constant : am_MR := (yX8_constant, cX8_constant, 2, (some .int), 8, 1, (0, 0), tX8_constant)
theorem kX8_constant : am_chk cX8_constant tX8_constant = true := am_chk_c kX8_constant_0 (am_chk_c kX8_constant_1 (rfl))
def tX8_make_0 : List am_En := [(0, .aload_n 0, 1, []), (1, .getfield 19, 4, []), (4, .aload_n 0, 5, []), (5, .getfield 69, 8, []), (8, .iload_n 1, 9, []), (9, .iastore, 10, []), (10, .aload_n 0, 11, []), (11, .getfield 22, 14, []), (14, .aload_n 0, 15, []), (15, .getfield 69, 18, [])]
theorem kX8_make_0 : tX8_make_0.all (am_okE cX8_make) = true := by decide +kernel
def tX8_make_1 : List am_En := [(18, .iload_n 2, 19, []), (19, .iastore, 20, []), (20, .aload_n 0, 21, []), (21, .getfield 25, 24, []), (24, .aload_n 0, 25, []), (25, .getfield 69, 28, []), (28, .iload_n 3, 29, []), (29, .iastore, 30, []), (30, .aload_n 0, 31, []), (31, .getfield 28, 34, [])]
theorem kX8_make_1 : tX8_make_1.all (am_okE cX8_make) = true := by decide +kernel
def tX8_make_2 : List am_En := [(34, .aload_n 0, 35, []), (35, .getfield 69, 38, []), (38, .iload 4, 40, []), (40, .iastore, 41, []), (41, .aload_n 0, 42, []), (42, .getfield 31, 45, []), (45, .aload_n 0, 46, []), (46, .getfield 69, 49, [])]
theorem kX8_make_2 : tX8_make_2.all (am_okE cX8_make) = true := by decide +kernel
def tX8_make_3 : List am_En := [(49, .iload 5, 51, []), (51, .iastore, 52, []), (52, .aload_n 0, 53, []), (53, .getfield 34, 56, []), (56, .aload_n 0, 57, []), (57, .getfield 69, 60, []), (60, .iload 6, 62, []), (62, .iastore, 63, []), (63, .aload_n 0, 64, [])]
theorem kX8_make_3 : tX8_make_3.all (am_okE cX8_make) = true := by decide +kernel
def tX8_make_4 : List am_En := [(64, .getfield 37, 67, []), (67, .aload_n 0, 68, []), (68, .getfield 69, 71, []), (71, .iload 7, 73, []), (73, .iastore, 74, []), (74, .iconst 0, 75, []), (75, .istore 8, 77, []), (77, .iload 8, 79, []), (79, .iconst 4, 80, [])]
theorem kX8_make_4 : tX8_make_4.all (am_okE cX8_make) = true := by decide +kernel
def tX8_make_5 : List am_En := [(80, .if_icmp .ge 24, 83, [104]), (83, .aload_n 0, 84, []), (84, .getfield 40, 87, []), (87, .iconst 4, 88, []), (88, .aload_n 0, 89, []), (89, .getfield 69, 92, []), (92, .imul, 93, []), (93, .iload 8, 95, []), (95, .iadd, 96, [])]
theorem kX8_make_5 : tX8_make_5.all (am_okE cX8_make) = true := by decide +kernel
def tX8_make_6 : List am_En := [(96, .iconst 0, 97, []), (97, .iastore, 98, []), (98, .iinc 8 1, 101, []), (101, .goto (-24), 104, [77]), (104, .aload_n 0, 105, []), (105, .dup, 106, []), (106, .getfield 69, 109, []), (109, .iconst 1, 110, []), (110, .iadd, 111, []), (111, .putfield 69, 114, [])]
theorem kX8_make_6 : tX8_make_6.all (am_okE cX8_make) = true := by decide +kernel
def tX8_make_7 : List am_En := [(114, .aload_n 0, 115, []), (115, .getfield 69, 118, []), (118, .iconst 1, 119, []), (119, .isub, 120, []), (120, .ireturn, 121, [])]
theorem kX8_make_7 : tX8_make_7.all (am_okE cX8_make) = true := by decide +kernel
def tX8_make : List (List am_En) := [tX8_make_0, tX8_make_1, tX8_make_2, tX8_make_3, tX8_make_4, tX8_make_5, tX8_make_6, tX8_make_7]
def mX8_make : am_MR := (yX8_make, cX8_make, 9, (some .int), 8, 7, (0, 0), tX8_make)
theorem kX8_make : am_chk cX8_make tX8_make = true := am_chk_c kX8_make_0 (am_chk_c kX8_make_1 (am_chk_c kX8_make_2 (am_chk_c kX8_make_3 (am_chk_c kX8_make_4 (am_chk_c kX8_make_5 (am_chk_c kX8_make_6 (am_chk_c kX8_make_7 (rfl))))))))
def tX8_column_0 : List am_En := [(0, .aload_n 0, 1, []), (1, .getfield 69, 4, []), (4, .bipush 120, 6, []), (6, .if_icmp .eq 22, 9, [28]), (9, .iload_n 1, 10, []), (10, .iconst 0, 11, []), (11, .iconst 3, 12, []), (12, .invokestatic 65, 15, []), (15, .ifCond .eq 13, 18, [28])]
theorem kX8_column_0 : tX8_column_0.all (am_okE cX8_column) = true := by decide +kernel
def tX8_column_1 : List am_En := [(18, .iload_n 2, 19, []), (19, .iconst 0, 20, []), (20, .bipush 7, 22, []), (22, .invokestatic 65, 25, []), (25, .ifCond .ne 5, 28, [30]), (28, .iconst (-1), 29, []), (29, .ireturn, 30, []), (30, .aload_n 0, 31, []), (31, .iconst 1, 32, [])]
theorem kX8_column_1 : tX8_column_1.all (am_okE cX8_column) = true := by decide +kernel
def tX8_column_2 : List am_En := [(32, .iconst 0, 33, []), (33, .iconst 0, 34, []), (34, .iload_n 1, 35, []), (35, .iload_n 2, 36, []), (36, .iconst 0, 37, []), (37, .iconst 0, 38, []), (38, .invokevirtual 72, 41, []), (41, .istore_n 3, 42, []), (42, .aload_n 0, 43, []), (43, .getfield 40, 46, []), (46, .iconst 4, 47, []), (47, .iload_n 3, 48, [])]
theorem kX8_column_2 : tX8_column_2.all (am_okE cX8_column) = true := by decide +kernel
def tX8_column_3 : List am_En := [(48, .imul, 49, []), (49, .iload_n 1, 50, []), (50, .iadd, 51, []), (51, .iconst 1, 52, []), (52, .iload_n 2, 53, []), (53, .ishl, 54, []), (54, .iastore, 55, []), (55, .iload_n 3, 56, []), (56, .ireturn, 57, [])]
theorem kX8_column_3 : tX8_column_3.all (am_okE cX8_column) = true := by decide +kernel
def tX8_column : List (List am_En) := [tX8_column_0, tX8_column_1, tX8_column_2, tX8_column_3]
def mX8_column : am_MR := (yX8_column, cX8_column, 4, (some .int), 8, 2, (0, 0), tX8_column)
theorem kX8_column : am_chk cX8_column tX8_column = true := am_chk_c kX8_column_0 (am_chk_c kX8_column_1 (am_chk_c kX8_column_2 (am_chk_c kX8_column_3 (rfl))))
def tX8_reckon_0 : List am_En := [(0, .aload_n 0, 1, []), (1, .getfield 69, 4, []), (4, .bipush 120, 6, []), (6, .if_icmp .eq 30, 9, [36]), (9, .iload_n 1, 10, []), (10, .iconst 0, 11, []), (11, .iconst 2, 12, []), (12, .invokestatic 65, 15, []), (15, .ifCond .eq 21, 18, [36])]
theorem kX8_reckon_0 : tX8_reckon_0.all (am_okE cX8_reckon) = true := by decide +kernel
def tX8_reckon_1 : List am_En := [(18, .aload_n 0, 19, []), (19, .iload_n 2, 20, []), (20, .iconst 0, 21, []), (21, .invokevirtual 76, 24, []), (24, .ifCond .eq 12, 27, [36]), (27, .aload_n 0, 28, []), (28, .iload_n 3, 29, []), (29, .iconst 0, 30, []), (30, .invokevirtual 76, 33, [])]
theorem kX8_reckon_1 : tX8_reckon_1.all (am_okE cX8_reckon) = true := by decide +kernel
def tX8_reckon_2 : List am_En := [(33, .ifCond .ne 5, 36, [38]), (36, .iconst (-1), 37, []), (37, .ireturn, 38, []), (38, .aload_n 0, 39, []), (39, .iconst 2, 40, []), (40, .iconst 0, 41, []), (41, .iconst 0, 42, []), (42, .iload_n 1, 43, []), (43, .iload_n 2, 44, []), (44, .iload_n 3, 45, []), (45, .iconst 0, 46, []), (46, .invokevirtual 72, 49, [])]
theorem kX8_reckon_2 : tX8_reckon_2.all (am_okE cX8_reckon) = true := by decide +kernel
def tX8_reckon_3 : List am_En := [(49, .istore 4, 51, []), (51, .aload_n 0, 52, []), (52, .iload 4, 54, []), (54, .iload_n 2, 55, []), (55, .invokevirtual 80, 58, []), (58, .aload_n 0, 59, []), (59, .iload 4, 61, []), (61, .iload_n 3, 62, []), (62, .invokevirtual 80, 65, [])]
theorem kX8_reckon_3 : tX8_reckon_3.all (am_okE cX8_reckon) = true := by decide +kernel
def tX8_reckon_4 : List am_En := [(65, .iload 4, 67, []), (67, .ireturn, 68, [])]
theorem kX8_reckon_4 : tX8_reckon_4.all (am_okE cX8_reckon) = true := by decide +kernel
def tX8_reckon : List (List am_En) := [tX8_reckon_0, tX8_reckon_1, tX8_reckon_2, tX8_reckon_3, tX8_reckon_4]
def mX8_reckon : am_MR := (yX8_reckon, cX8_reckon, 5, (some .int), 8, 3, (0, 0), tX8_reckon)
theorem kX8_reckon : am_chk cX8_reckon tX8_reckon = true := am_chk_c kX8_reckon_0 (am_chk_c kX8_reckon_1 (am_chk_c kX8_reckon_2 (am_chk_c kX8_reckon_3 (am_chk_c kX8_reckon_4 (rfl)))))
def tX8_is_0 : List am_En := [(0, .iload_n 1, 1, []), (1, .iconst 0, 2, []), (2, .aload_n 0, 3, []), (3, .getfield 69, 6, []), (6, .iconst 1, 7, []), (7, .isub, 8, []), (8, .invokestatic 65, 11, []), (11, .ifCond .eq 17, 14, [28]), (14, .aload_n 0, 15, []), (15, .getfield 22, 18, [])]
theorem kX8_is_0 : tX8_is_0.all (am_okE cX8_is) = true := by decide +kernel
def tX8_is_1 : List am_En := [(18, .iload_n 1, 19, []), (19, .iaload, 20, []), (20, .iload_n 2, 21, []), (21, .if_icmp .ne 7, 24, [28]), (24, .iconst 1, 25, []), (25, .goto 4, 28, [29]), (28, .iconst 0, 29, []), (29, .ireturn, 30, [])]
theorem kX8_is_1 : tX8_is_1.all (am_okE cX8_is) = true := by decide +kernel
def tX8_is : List (List am_En) := [tX8_is_0, tX8_is_1]
def mX8_is : am_MR := (yX8_is, cX8_is, 3, (some .boolean), 8, 2, (0, 0), tX8_is)
theorem kX8_is : am_chk cX8_is tX8_is = true := am_chk_c kX8_is_0 (am_chk_c kX8_is_1 (rfl))
def tX8_looksAs_0 : List am_En := [(0, .iconst 0, 1, []), (1, .istore_n 3, 2, []), (2, .iload_n 3, 3, []), (3, .iconst 4, 4, []), (4, .if_icmp .ge 32, 7, [36]), (7, .aload_n 0, 8, []), (8, .getfield 40, 11, []), (11, .iconst 4, 12, []), (12, .iload_n 1, 13, []), (13, .imul, 14, []), (14, .iload_n 3, 15, []), (15, .iadd, 16, [])]
theorem kX8_looksAs_0 : tX8_looksAs_0.all (am_okE cX8_looksAs) = true := by decide +kernel
def tX8_looksAs_1 : List am_En := [(16, .dup2, 17, []), (17, .iaload, 18, []), (18, .aload_n 0, 19, []), (19, .getfield 40, 22, []), (22, .iconst 4, 23, []), (23, .iload_n 2, 24, []), (24, .imul, 25, []), (25, .iload_n 3, 26, []), (26, .iadd, 27, []), (27, .iaload, 28, []), (28, .ior, 29, []), (29, .iastore, 30, []), (30, .iinc 3 1, 33, [])]
theorem kX8_looksAs_1 : tX8_looksAs_1.all (am_okE cX8_looksAs) = true := by decide +kernel
def tX8_looksAs_2 : List am_En := [(33, .goto (-31), 36, [2]), (36, .return_, 37, [])]
theorem kX8_looksAs_2 : tX8_looksAs_2.all (am_okE cX8_looksAs) = true := by decide +kernel
def tX8_looksAs : List (List am_En) := [tX8_looksAs_0, tX8_looksAs_1, tX8_looksAs_2]
def mX8_looksAs : am_MR := (yX8_looksAs, cX8_looksAs, 4, none, 8, 2, (0, 0), tX8_looksAs)
theorem kX8_looksAs : am_chk cX8_looksAs tX8_looksAs = true := am_chk_c kX8_looksAs_0 (am_chk_c kX8_looksAs_1 (am_chk_c kX8_looksAs_2 (rfl)))
def tX8_number_0 : List am_En := [(0, .aload_n 0, 1, []), (1, .getfield 69, 4, []), (4, .bipush 120, 6, []), (6, .if_icmp .eq 12, 9, [18]), (9, .aload_n 0, 10, []), (10, .iload_n 1, 11, []), (11, .iconst 1, 12, []), (12, .invokevirtual 76, 15, []), (15, .ifCond .ne 5, 18, [20])]
theorem kX8_number_0 : tX8_number_0.all (am_okE cX8_number) = true := by decide +kernel
def tX8_number_1 : List am_En := [(18, .iconst (-1), 19, []), (19, .ireturn, 20, []), (20, .aload_n 0, 21, []), (21, .iconst 3, 22, []), (22, .iconst 0, 23, []), (23, .iconst 0, 24, []), (24, .iload_n 1, 25, []), (25, .iconst 0, 26, []), (26, .iconst 0, 27, []), (27, .iconst 0, 28, []), (28, .invokevirtual 72, 31, []), (31, .istore_n 2, 32, [])]
theorem kX8_number_1 : tX8_number_1.all (am_okE cX8_number) = true := by decide +kernel
def tX8_number_2 : List am_En := [(32, .aload_n 0, 33, []), (33, .iload_n 2, 34, []), (34, .iload_n 1, 35, []), (35, .invokevirtual 80, 38, []), (38, .iload_n 2, 39, []), (39, .ireturn, 40, [])]
theorem kX8_number_2 : tX8_number_2.all (am_okE cX8_number) = true := by decide +kernel
def tX8_number : List (List am_En) := [tX8_number_0, tX8_number_1, tX8_number_2]
def mX8_number : am_MR := (yX8_number, cX8_number, 3, (some .int), 8, 1, (0, 0), tX8_number)
theorem kX8_number : am_chk cX8_number tX8_number = true := am_chk_c kX8_number_0 (am_chk_c kX8_number_1 (am_chk_c kX8_number_2 (rfl)))
def tX8_fold_0 : List am_En := [(0, .aload_n 0, 1, []), (1, .getfield 69, 4, []), (4, .bipush 120, 6, []), (6, .if_icmp .eq 37, 9, [43]), (9, .iload_n 1, 10, []), (10, .iconst 0, 11, []), (11, .iconst 5, 12, []), (12, .invokestatic 65, 15, []), (15, .ifCond .eq 28, 18, [43])]
theorem kX8_fold_0 : tX8_fold_0.all (am_okE cX8_fold) = true := by decide +kernel
def tX8_fold_1 : List am_En := [(18, .aload_n 0, 19, []), (19, .iload_n 2, 20, []), (20, .iconst 2, 21, []), (21, .invokevirtual 76, 24, []), (24, .ifCond .eq 19, 27, [43]), (27, .iload_n 3, 28, []), (28, .iconst 0, 29, []), (29, .aload_n 0, 30, []), (30, .getfield 25, 33, [])]
theorem kX8_fold_1 : tX8_fold_1.all (am_okE cX8_fold) = true := by decide +kernel
def tX8_fold_2 : List am_En := [(33, .iload_n 2, 34, []), (34, .iaload, 35, []), (35, .iconst 1, 36, []), (36, .isub, 37, []), (37, .invokestatic 65, 40, []), (40, .ifCond .ne 5, 43, [45]), (43, .iconst (-1), 44, []), (44, .ireturn, 45, []), (45, .aload_n 0, 46, []), (46, .iconst 4, 47, []), (47, .iconst 0, 48, [])]
theorem kX8_fold_2 : tX8_fold_2.all (am_okE cX8_fold) = true := by decide +kernel
def tX8_fold_3 : List am_En := [(48, .iconst 0, 49, []), (49, .iload_n 1, 50, []), (50, .iload_n 2, 51, []), (51, .iload_n 3, 52, []), (52, .iconst 0, 53, []), (53, .invokevirtual 72, 56, []), (56, .istore 4, 58, []), (58, .aload_n 0, 59, []), (59, .iload 4, 61, []), (61, .iload_n 2, 62, []), (62, .invokevirtual 80, 65, [])]
theorem kX8_fold_3 : tX8_fold_3.all (am_okE cX8_fold) = true := by decide +kernel
def tX8_fold_4 : List am_En := [(65, .iload 4, 67, []), (67, .ireturn, 68, [])]
theorem kX8_fold_4 : tX8_fold_4.all (am_okE cX8_fold) = true := by decide +kernel
def tX8_fold : List (List am_En) := [tX8_fold_0, tX8_fold_1, tX8_fold_2, tX8_fold_3, tX8_fold_4]
def mX8_fold : am_MR := (yX8_fold, cX8_fold, 5, (some .int), 8, 3, (0, 0), tX8_fold)
theorem kX8_fold : am_chk cX8_fold tX8_fold = true := am_chk_c kX8_fold_0 (am_chk_c kX8_fold_1 (am_chk_c kX8_fold_2 (am_chk_c kX8_fold_3 (am_chk_c kX8_fold_4 (rfl)))))
def tX8_compare_0 : List am_En := [(0, .aload_n 0, 1, []), (1, .getfield 69, 4, []), (4, .bipush 120, 6, []), (6, .if_icmp .eq 30, 9, [36]), (9, .iload_n 1, 10, []), (10, .iconst 0, 11, []), (11, .iconst 4, 12, []), (12, .invokestatic 65, 15, []), (15, .ifCond .eq 21, 18, [36])]
theorem kX8_compare_0 : tX8_compare_0.all (am_okE cX8_compare) = true := by decide +kernel
def tX8_compare_1 : List am_En := [(18, .aload_n 0, 19, []), (19, .iload_n 2, 20, []), (20, .iconst 0, 21, []), (21, .invokevirtual 76, 24, []), (24, .ifCond .eq 12, 27, [36]), (27, .aload_n 0, 28, []), (28, .iload_n 3, 29, []), (29, .iconst 0, 30, []), (30, .invokevirtual 76, 33, [])]
theorem kX8_compare_1 : tX8_compare_1.all (am_okE cX8_compare) = true := by decide +kernel
def tX8_compare_2 : List am_En := [(33, .ifCond .ne 5, 36, [38]), (36, .iconst (-1), 37, []), (37, .ireturn, 38, []), (38, .aload_n 0, 39, []), (39, .iconst 5, 40, []), (40, .iconst 1, 41, []), (41, .iconst 0, 42, []), (42, .iload_n 1, 43, []), (43, .iload_n 2, 44, []), (44, .iload_n 3, 45, []), (45, .iconst 0, 46, []), (46, .invokevirtual 72, 49, [])]
theorem kX8_compare_2 : tX8_compare_2.all (am_okE cX8_compare) = true := by decide +kernel
def tX8_compare_3 : List am_En := [(49, .istore 4, 51, []), (51, .aload_n 0, 52, []), (52, .iload 4, 54, []), (54, .iload_n 2, 55, []), (55, .invokevirtual 80, 58, []), (58, .aload_n 0, 59, []), (59, .iload 4, 61, []), (61, .iload_n 3, 62, []), (62, .invokevirtual 80, 65, [])]
theorem kX8_compare_3 : tX8_compare_3.all (am_okE cX8_compare) = true := by decide +kernel
def tX8_compare_4 : List am_En := [(65, .iload 4, 67, []), (67, .ireturn, 68, [])]
theorem kX8_compare_4 : tX8_compare_4.all (am_okE cX8_compare) = true := by decide +kernel
def tX8_compare : List (List am_En) := [tX8_compare_0, tX8_compare_1, tX8_compare_2, tX8_compare_3, tX8_compare_4]
def mX8_compare : am_MR := (yX8_compare, cX8_compare, 5, (some .int), 8, 3, (0, 0), tX8_compare)
theorem kX8_compare : am_chk cX8_compare tX8_compare = true := am_chk_c kX8_compare_0 (am_chk_c kX8_compare_1 (am_chk_c kX8_compare_2 (am_chk_c kX8_compare_3 (am_chk_c kX8_compare_4 (rfl)))))
def tX8_isNothing_0 : List am_En := [(0, .aload_n 0, 1, []), (1, .getfield 69, 4, []), (4, .bipush 120, 6, []), (6, .if_icmp .eq 12, 9, [18]), (9, .aload_n 0, 10, []), (10, .iload_n 1, 11, []), (11, .iconst 0, 12, []), (12, .invokevirtual 76, 15, []), (15, .ifCond .ne 5, 18, [20])]
theorem kX8_isNothing_0 : tX8_isNothing_0.all (am_okE cX8_isNothing) = true := by decide +kernel
def tX8_isNothing_1 : List am_En := [(18, .iconst (-1), 19, []), (19, .ireturn, 20, []), (20, .aload_n 0, 21, []), (21, .bipush 6, 23, []), (23, .iconst 1, 24, []), (24, .iconst 0, 25, []), (25, .iload_n 1, 26, []), (26, .iconst 0, 27, []), (27, .iconst 0, 28, []), (28, .iconst 0, 29, []), (29, .invokevirtual 72, 32, [])]
theorem kX8_isNothing_1 : tX8_isNothing_1.all (am_okE cX8_isNothing) = true := by decide +kernel
def tX8_isNothing_2 : List am_En := [(32, .istore_n 2, 33, []), (33, .aload_n 0, 34, []), (34, .iload_n 2, 35, []), (35, .iload_n 1, 36, []), (36, .invokevirtual 80, 39, []), (39, .iload_n 2, 40, []), (40, .ireturn, 41, [])]
theorem kX8_isNothing_2 : tX8_isNothing_2.all (am_okE cX8_isNothing) = true := by decide +kernel
def tX8_isNothing : List (List am_En) := [tX8_isNothing_0, tX8_isNothing_1, tX8_isNothing_2]
def mX8_isNothing : am_MR := (yX8_isNothing, cX8_isNothing, 3, (some .int), 8, 1, (0, 0), tX8_isNothing)
theorem kX8_isNothing : am_chk cX8_isNothing tX8_isNothing = true := am_chk_c kX8_isNothing_0 (am_chk_c kX8_isNothing_1 (am_chk_c kX8_isNothing_2 (rfl)))
def tX8_logic_0 : List am_En := [(0, .aload_n 0, 1, []), (1, .getfield 69, 4, []), (4, .bipush 120, 6, []), (6, .if_icmp .eq 35, 9, [41]), (9, .iload_n 1, 10, []), (10, .iconst 0, 11, []), (11, .iconst 2, 12, []), (12, .invokestatic 65, 15, []), (15, .ifCond .eq 26, 18, [41])]
theorem kX8_logic_0 : tX8_logic_0.all (am_okE cX8_logic) = true := by decide +kernel
def tX8_logic_1 : List am_En := [(18, .aload_n 0, 19, []), (19, .iload_n 2, 20, []), (20, .iconst 1, 21, []), (21, .invokevirtual 76, 24, []), (24, .ifCond .eq 17, 27, [41]), (27, .iload_n 1, 28, []), (28, .iconst 2, 29, []), (29, .if_icmp .eq 14, 32, [43])]
theorem kX8_logic_1 : tX8_logic_1.all (am_okE cX8_logic) = true := by decide +kernel
def tX8_logic_2 : List am_En := [(32, .aload_n 0, 33, []), (33, .iload_n 3, 34, []), (34, .iconst 1, 35, []), (35, .invokevirtual 76, 38, []), (38, .ifCond .ne 5, 41, [43]), (41, .iconst (-1), 42, []), (42, .ireturn, 43, []), (43, .aload_n 0, 44, []), (44, .bipush 7, 46, []), (46, .iconst 1, 47, []), (47, .iconst 0, 48, [])]
theorem kX8_logic_2 : tX8_logic_2.all (am_okE cX8_logic) = true := by decide +kernel
def tX8_logic_3 : List am_En := [(48, .iload_n 1, 49, []), (49, .iload_n 2, 50, []), (50, .iload_n 1, 51, []), (51, .iconst 2, 52, []), (52, .if_icmp .ne 7, 55, [59]), (55, .iload_n 2, 56, []), (56, .goto 4, 59, [60]), (59, .iload_n 3, 60, []), (60, .iconst 0, 61, []), (61, .invokevirtual 72, 64, [])]
theorem kX8_logic_3 : tX8_logic_3.all (am_okE cX8_logic) = true := by decide +kernel
def tX8_logic_4 : List am_En := [(64, .istore 4, 66, []), (66, .aload_n 0, 67, []), (67, .iload 4, 69, []), (69, .iload_n 2, 70, []), (70, .invokevirtual 80, 73, []), (73, .iload_n 1, 74, []), (74, .iconst 2, 75, []), (75, .if_icmp .eq 10, 78, [85]), (78, .aload_n 0, 79, []), (79, .iload 4, 81, [])]
theorem kX8_logic_4 : tX8_logic_4.all (am_okE cX8_logic) = true := by decide +kernel
def tX8_logic_5 : List am_En := [(81, .iload_n 3, 82, []), (82, .invokevirtual 80, 85, []), (85, .iload 4, 87, []), (87, .ireturn, 88, [])]
theorem kX8_logic_5 : tX8_logic_5.all (am_okE cX8_logic) = true := by decide +kernel
def tX8_logic : List (List am_En) := [tX8_logic_0, tX8_logic_1, tX8_logic_2, tX8_logic_3, tX8_logic_4, tX8_logic_5]
def mX8_logic : am_MR := (yX8_logic, cX8_logic, 5, (some .int), 8, 3, (0, 0), tX8_logic)
theorem kX8_logic : am_chk cX8_logic tX8_logic = true := am_chk_c kX8_logic_0 (am_chk_c kX8_logic_1 (am_chk_c kX8_logic_2 (am_chk_c kX8_logic_3 (am_chk_c kX8_logic_4 (am_chk_c kX8_logic_5 (rfl))))))
def tX8_has_0 : List am_En := [(0, .aload_n 0, 1, []), (1, .getfield 69, 4, []), (4, .bipush 120, 6, []), (6, .if_icmp .eq 12, 9, [18]), (9, .aload_n 0, 10, []), (10, .iload_n 1, 11, []), (11, .iconst 2, 12, []), (12, .invokevirtual 76, 15, []), (15, .ifCond .ne 5, 18, [20])]
theorem kX8_has_0 : tX8_has_0.all (am_okE cX8_has) = true := by decide +kernel
def tX8_has_1 : List am_En := [(18, .iconst (-1), 19, []), (19, .ireturn, 20, []), (20, .aload_n 0, 21, []), (21, .bipush 8, 23, []), (23, .iconst 1, 24, []), (24, .iconst 0, 25, []), (25, .iload_n 1, 26, []), (26, .iconst 0, 27, []), (27, .iconst 0, 28, []), (28, .iconst 0, 29, []), (29, .invokevirtual 72, 32, [])]
theorem kX8_has_1 : tX8_has_1.all (am_okE cX8_has) = true := by decide +kernel
def tX8_has_2 : List am_En := [(32, .istore_n 2, 33, []), (33, .aload_n 0, 34, []), (34, .iload_n 2, 35, []), (35, .iload_n 1, 36, []), (36, .invokevirtual 80, 39, []), (39, .iload_n 2, 40, []), (40, .ireturn, 41, [])]
theorem kX8_has_2 : tX8_has_2.all (am_okE cX8_has) = true := by decide +kernel
def tX8_has : List (List am_En) := [tX8_has_0, tX8_has_1, tX8_has_2]
def mX8_has : am_MR := (yX8_has, cX8_has, 3, (some .int), 8, 1, (0, 0), tX8_has)
theorem kX8_has : am_chk cX8_has tX8_has = true := am_chk_c kX8_has_0 (am_chk_c kX8_has_1 (am_chk_c kX8_has_2 (rfl)))
def tX8_some_0 : List am_En := [(0, .aload_n 0, 1, []), (1, .bipush 9, 3, []), (3, .iload_n 1, 4, []), (4, .iload_n 2, 5, []), (5, .iload_n 3, 6, []), (6, .invokevirtual 84, 9, []), (9, .ireturn, 10, [])]
theorem kX8_some_0 : tX8_some_0.all (am_okE cX8_some) = true := by decide +kernel
def tX8_some : List (List am_En) := [tX8_some_0]
def mX8_some : am_MR := (yX8_some, cX8_some, 4, (some .int), 8, 3, (0, 0), tX8_some)
theorem kX8_some : am_chk cX8_some tX8_some = true := am_chk_c kX8_some_0 (rfl)
def tX8_quantity_0 : List am_En := [(0, .aload_n 0, 1, []), (1, .getfield 69, 4, []), (4, .bipush 120, 6, []), (6, .if_icmp .eq 42, 9, [48]), (9, .iload_n 2, 10, []), (10, .iconst 0, 11, []), (11, .iconst 4, 12, []), (12, .invokestatic 65, 15, []), (15, .ifCond .eq 33, 18, [48])]
theorem kX8_quantity_0 : tX8_quantity_0.all (am_okE cX8_quantity) = true := by decide +kernel
def tX8_quantity_1 : List am_En := [(18, .aload_n 0, 19, []), (19, .iload_n 3, 20, []), (20, .iconst 0, 21, []), (21, .invokevirtual 76, 24, []), (24, .ifCond .eq 24, 27, [48]), (27, .aload_n 0, 28, []), (28, .iload 4, 30, []), (30, .iconst 2, 31, []), (31, .invokevirtual 76, 34, [])]
theorem kX8_quantity_1 : tX8_quantity_1.all (am_okE cX8_quantity) = true := by decide +kernel
def tX8_quantity_2 : List am_En := [(34, .ifCond .eq 14, 37, [48]), (37, .aload_n 0, 38, []), (38, .getfield 25, 41, []), (41, .iload 4, 43, []), (43, .iaload, 44, []), (44, .iconst 1, 45, []), (45, .if_icmp .eq 5, 48, [50])]
theorem kX8_quantity_2 : tX8_quantity_2.all (am_okE cX8_quantity) = true := by decide +kernel
def tX8_quantity_3 : List am_En := [(48, .iconst (-1), 49, []), (49, .ireturn, 50, []), (50, .aload_n 0, 51, []), (51, .iload_n 1, 52, []), (52, .iconst 1, 53, []), (53, .iconst 0, 54, []), (54, .iload_n 2, 55, []), (55, .iload_n 3, 56, []), (56, .iload 4, 58, []), (58, .iconst 0, 59, []), (59, .invokevirtual 72, 62, []), (62, .istore 5, 64, [])]
theorem kX8_quantity_3 : tX8_quantity_3.all (am_okE cX8_quantity) = true := by decide +kernel
def tX8_quantity_4 : List am_En := [(64, .aload_n 0, 65, []), (65, .iload 5, 67, []), (67, .iload_n 3, 68, []), (68, .invokevirtual 80, 71, []), (71, .aload_n 0, 72, []), (72, .iload 5, 74, []), (74, .iload 4, 76, []), (76, .invokevirtual 80, 79, []), (79, .iload 5, 81, [])]
theorem kX8_quantity_4 : tX8_quantity_4.all (am_okE cX8_quantity) = true := by decide +kernel
def tX8_quantity_5 : List am_En := [(81, .ireturn, 82, [])]
theorem kX8_quantity_5 : tX8_quantity_5.all (am_okE cX8_quantity) = true := by decide +kernel
def tX8_quantity : List (List am_En) := [tX8_quantity_0, tX8_quantity_1, tX8_quantity_2, tX8_quantity_3, tX8_quantity_4, tX8_quantity_5]
def mX8_quantity : am_MR := (yX8_quantity, cX8_quantity, 6, (some .int), 8, 4, (0, 0), tX8_quantity)
theorem kX8_quantity : am_chk cX8_quantity tX8_quantity = true := am_chk_c kX8_quantity_0 (am_chk_c kX8_quantity_1 (am_chk_c kX8_quantity_2 (am_chk_c kX8_quantity_3 (am_chk_c kX8_quantity_4 (am_chk_c kX8_quantity_5 (rfl))))))
def tX8_each_0 : List am_En := [(0, .aload_n 0, 1, []), (1, .bipush 10, 3, []), (3, .iload_n 1, 4, []), (4, .iload_n 2, 5, []), (5, .iload_n 3, 6, []), (6, .invokevirtual 84, 9, []), (9, .ireturn, 10, [])]
theorem kX8_each_0 : tX8_each_0.all (am_okE cX8_each) = true := by decide +kernel
def tX8_each : List (List am_En) := [tX8_each_0]
def mX8_each : am_MR := (yX8_each, cX8_each, 4, (some .int), 8, 3, (0, 0), tX8_each)
theorem kX8_each : am_chk cX8_each tX8_each = true := am_chk_c kX8_each_0 (rfl)
def tX8_scan_0 : List am_En := [(0, .aload_n 0, 1, []), (1, .getfield 69, 4, []), (4, .bipush 120, 6, []), (6, .if_icmp .eq 17, 9, [23]), (9, .iload_n 1, 10, []), (10, .iconst 0, 11, []), (11, .aload_n 0, 12, []), (12, .getfield 61, 15, []), (15, .iconst 1, 16, [])]
theorem kX8_scan_0 : tX8_scan_0.all (am_okE cX8_scan) = true := by decide +kernel
def tX8_scan_1 : List am_En := [(16, .isub, 17, []), (17, .invokestatic 65, 20, []), (20, .ifCond .ne 5, 23, [25]), (23, .iconst (-1), 24, []), (24, .ireturn, 25, []), (25, .aload_n 0, 26, []), (26, .bipush 11, 28, []), (28, .iconst 2, 29, []), (29, .aload_n 0, 30, []), (30, .getfield 7, 33, [])]
theorem kX8_scan_1 : tX8_scan_1.all (am_okE cX8_scan) = true := by decide +kernel
def tX8_scan_2 : List am_En := [(33, .iload_n 1, 34, []), (34, .iaload, 35, []), (35, .iload_n 1, 36, []), (36, .iconst 0, 37, []), (37, .iconst 0, 38, []), (38, .iconst 0, 39, []), (39, .invokevirtual 72, 42, []), (42, .ireturn, 43, [])]
theorem kX8_scan_2 : tX8_scan_2.all (am_okE cX8_scan) = true := by decide +kernel
def tX8_scan : List (List am_En) := [tX8_scan_0, tX8_scan_1, tX8_scan_2]
def mX8_scan : am_MR := (yX8_scan, cX8_scan, 2, (some .int), 8, 1, (0, 0), tX8_scan)
theorem kX8_scan : am_chk cX8_scan tX8_scan = true := am_chk_c kX8_scan_0 (am_chk_c kX8_scan_1 (am_chk_c kX8_scan_2 (rfl)))
def tX8_filter_0 : List am_En := [(0, .aload_n 0, 1, []), (1, .getfield 69, 4, []), (4, .bipush 120, 6, []), (6, .if_icmp .eq 30, 9, [36]), (9, .aload_n 0, 10, []), (10, .iload_n 1, 11, []), (11, .iconst 2, 12, []), (12, .invokevirtual 76, 15, []), (15, .ifCond .eq 21, 18, [36])]
theorem kX8_filter_0 : tX8_filter_0.all (am_okE cX8_filter) = true := by decide +kernel
def tX8_filter_1 : List am_En := [(18, .aload_n 0, 19, []), (19, .iload_n 2, 20, []), (20, .iconst 1, 21, []), (21, .invokevirtual 76, 24, []), (24, .ifCond .eq 12, 27, [36]), (27, .aload_n 0, 28, []), (28, .iload_n 1, 29, []), (29, .iload_n 2, 30, []), (30, .invokevirtual 88, 33, [])]
theorem kX8_filter_1 : tX8_filter_1.all (am_okE cX8_filter) = true := by decide +kernel
def tX8_filter_2 : List am_En := [(33, .ifCond .ne 5, 36, [38]), (36, .iconst (-1), 37, []), (37, .ireturn, 38, []), (38, .aload_n 0, 39, []), (39, .bipush 12, 41, []), (41, .iconst 2, 42, []), (42, .aload_n 0, 43, []), (43, .getfield 25, 46, []), (46, .iload_n 1, 47, []), (47, .iaload, 48, [])]
theorem kX8_filter_2 : tX8_filter_2.all (am_okE cX8_filter) = true := by decide +kernel
def tX8_filter_3 : List am_En := [(48, .iload_n 1, 49, []), (49, .iload_n 2, 50, []), (50, .iconst 0, 51, []), (51, .iconst 0, 52, []), (52, .invokevirtual 72, 55, []), (55, .istore_n 3, 56, []), (56, .aload_n 0, 57, []), (57, .iload_n 3, 58, []), (58, .iload_n 1, 59, []), (59, .invokevirtual 80, 62, []), (62, .aload_n 0, 63, []), (63, .iload_n 3, 64, [])]
theorem kX8_filter_3 : tX8_filter_3.all (am_okE cX8_filter) = true := by decide +kernel
def tX8_filter_4 : List am_En := [(64, .iload_n 2, 65, []), (65, .invokevirtual 91, 68, []), (68, .iload_n 3, 69, []), (69, .ireturn, 70, [])]
theorem kX8_filter_4 : tX8_filter_4.all (am_okE cX8_filter) = true := by decide +kernel
def tX8_filter : List (List am_En) := [tX8_filter_0, tX8_filter_1, tX8_filter_2, tX8_filter_3, tX8_filter_4]
def mX8_filter : am_MR := (yX8_filter, cX8_filter, 4, (some .int), 8, 2, (0, 0), tX8_filter)
theorem kX8_filter : am_chk cX8_filter tX8_filter = true := am_chk_c kX8_filter_0 (am_chk_c kX8_filter_1 (am_chk_c kX8_filter_2 (am_chk_c kX8_filter_3 (am_chk_c kX8_filter_4 (rfl)))))
def tX8_fits_0 : List am_En := [(0, .aload_n 0, 1, []), (1, .getfield 40, 4, []), (4, .iconst 4, 5, []), (5, .iload_n 2, 6, []), (6, .imul, 7, []), (7, .iaload, 8, []), (8, .aload_n 0, 9, []), (9, .getfield 25, 12, []), (12, .iload_n 1, 13, []), (13, .iaload, 14, []), (14, .ishr, 15, []), (15, .ifCond .ne 7, 18, [22])]
theorem kX8_fits_0 : tX8_fits_0.all (am_okE cX8_fits) = true := by decide +kernel
def tX8_fits_1 : List am_En := [(18, .iconst 1, 19, []), (19, .goto 4, 22, [23]), (22, .iconst 0, 23, []), (23, .ireturn, 24, [])]
theorem kX8_fits_1 : tX8_fits_1.all (am_okE cX8_fits) = true := by decide +kernel
def tX8_fits : List (List am_En) := [tX8_fits_0, tX8_fits_1]
def mX8_fits : am_MR := (yX8_fits, cX8_fits, 3, (some .boolean), 8, 2, (0, 0), tX8_fits)
theorem kX8_fits : am_chk cX8_fits tX8_fits = true := am_chk_c kX8_fits_0 (am_chk_c kX8_fits_1 (rfl))
def tX8_looksWithin_0 : List am_En := [(0, .iconst 0, 1, []), (1, .istore_n 3, 2, []), (2, .iload_n 3, 3, []), (3, .iconst 3, 4, []), (4, .if_icmp .ge 34, 7, [38]), (7, .aload_n 0, 8, []), (8, .getfield 40, 11, []), (11, .iconst 4, 12, []), (12, .iload_n 1, 13, []), (13, .imul, 14, []), (14, .iload_n 3, 15, []), (15, .iadd, 16, [])]
theorem kX8_looksWithin_0 : tX8_looksWithin_0.all (am_okE cX8_looksWithin) = true := by decide +kernel
def tX8_looksWithin_1 : List am_En := [(16, .dup2, 17, []), (17, .iaload, 18, []), (18, .aload_n 0, 19, []), (19, .getfield 40, 22, []), (22, .iconst 4, 23, []), (23, .iload_n 2, 24, []), (24, .imul, 25, []), (25, .iload_n 3, 26, []), (26, .iadd, 27, []), (27, .iconst 1, 28, []), (28, .iadd, 29, []), (29, .iaload, 30, []), (30, .ior, 31, []), (31, .iastore, 32, [])]
theorem kX8_looksWithin_1 : tX8_looksWithin_1.all (am_okE cX8_looksWithin) = true := by decide +kernel
def tX8_looksWithin_2 : List am_En := [(32, .iinc 3 1, 35, []), (35, .goto (-33), 38, [2]), (38, .return_, 39, [])]
theorem kX8_looksWithin_2 : tX8_looksWithin_2.all (am_okE cX8_looksWithin) = true := by decide +kernel
def tX8_looksWithin : List (List am_En) := [tX8_looksWithin_0, tX8_looksWithin_1, tX8_looksWithin_2]
def mX8_looksWithin : am_MR := (yX8_looksWithin, cX8_looksWithin, 4, none, 8, 2, (0, 0), tX8_looksWithin)
theorem kX8_looksWithin : am_chk cX8_looksWithin tX8_looksWithin = true := am_chk_c kX8_looksWithin_0 (am_chk_c kX8_looksWithin_1 (am_chk_c kX8_looksWithin_2 (rfl)))
def tX8_more_0 : List am_En := [(0, .aload_n 0, 1, []), (1, .getfield 69, 4, []), (4, .bipush 120, 6, []), (6, .if_icmp .eq 41, 9, [47]), (9, .aload_n 0, 10, []), (10, .iload_n 1, 11, []), (11, .iconst 2, 12, []), (12, .invokevirtual 76, 15, []), (15, .ifCond .eq 32, 18, [47])]
theorem kX8_more_0 : tX8_more_0.all (am_okE cX8_more) = true := by decide +kernel
def tX8_more_1 : List am_En := [(18, .aload_n 0, 19, []), (19, .iload_n 2, 20, []), (20, .iconst 0, 21, []), (21, .invokevirtual 76, 24, []), (24, .ifCond .eq 23, 27, [47]), (27, .aload_n 0, 28, []), (28, .iload_n 1, 29, []), (29, .iload_n 2, 30, []), (30, .invokevirtual 88, 33, [])]
theorem kX8_more_1 : tX8_more_1.all (am_okE cX8_more) = true := by decide +kernel
def tX8_more_2 : List am_En := [(33, .ifCond .eq 14, 36, [47]), (36, .aload_n 0, 37, []), (37, .getfield 25, 40, []), (40, .iload_n 1, 41, []), (41, .iaload, 42, []), (42, .bipush 8, 44, []), (44, .if_icmp .ne 5, 47, [49]), (47, .iconst (-1), 48, [])]
theorem kX8_more_2 : tX8_more_2.all (am_okE cX8_more) = true := by decide +kernel
def tX8_more_3 : List am_En := [(48, .ireturn, 49, []), (49, .aload_n 0, 50, []), (50, .bipush 13, 52, []), (52, .iconst 2, 53, []), (53, .aload_n 0, 54, []), (54, .getfield 25, 57, []), (57, .iload_n 1, 58, []), (58, .iaload, 59, []), (59, .iconst 1, 60, []), (60, .iadd, 61, []), (61, .iload_n 1, 62, []), (62, .iload_n 2, 63, []), (63, .iconst 0, 64, [])]
theorem kX8_more_3 : tX8_more_3.all (am_okE cX8_more) = true := by decide +kernel
def tX8_more_4 : List am_En := [(64, .iconst 0, 65, []), (65, .invokevirtual 72, 68, []), (68, .istore_n 3, 69, []), (69, .aload_n 0, 70, []), (70, .iload_n 3, 71, []), (71, .iload_n 1, 72, []), (72, .invokevirtual 80, 75, []), (75, .aload_n 0, 76, []), (76, .iload_n 3, 77, []), (77, .iload_n 2, 78, []), (78, .invokevirtual 91, 81, [])]
theorem kX8_more_4 : tX8_more_4.all (am_okE cX8_more) = true := by decide +kernel
def tX8_more_5 : List am_En := [(81, .iload_n 3, 82, []), (82, .ireturn, 83, [])]
theorem kX8_more_5 : tX8_more_5.all (am_okE cX8_more) = true := by decide +kernel
def tX8_more : List (List am_En) := [tX8_more_0, tX8_more_1, tX8_more_2, tX8_more_3, tX8_more_4, tX8_more_5]
def mX8_more : am_MR := (yX8_more, cX8_more, 4, (some .int), 8, 2, (0, 0), tX8_more)
theorem kX8_more : am_chk cX8_more tX8_more = true := am_chk_c kX8_more_0 (am_chk_c kX8_more_1 (am_chk_c kX8_more_2 (am_chk_c kX8_more_3 (am_chk_c kX8_more_4 (am_chk_c kX8_more_5 (rfl))))))
def tX8_only_0 : List am_En := [(0, .aload_n 0, 1, []), (1, .getfield 69, 4, []), (4, .bipush 120, 6, []), (6, .if_icmp .eq 22, 9, [28]), (9, .aload_n 0, 10, []), (10, .iload_n 1, 11, []), (11, .iconst 2, 12, []), (12, .invokevirtual 76, 15, []), (15, .ifCond .eq 13, 18, [28])]
theorem kX8_only_0 : tX8_only_0.all (am_okE cX8_only) = true := by decide +kernel
def tX8_only_1 : List am_En := [(18, .iload_n 3, 19, []), (19, .iconst 1, 20, []), (20, .bipush 8, 22, []), (22, .invokestatic 65, 25, []), (25, .ifCond .ne 5, 28, [30]), (28, .iconst (-1), 29, []), (29, .ireturn, 30, []), (30, .iconst 0, 31, []), (31, .istore 4, 33, [])]
theorem kX8_only_1 : tX8_only_1.all (am_okE cX8_only) = true := by decide +kernel
def tX8_only_2 : List am_En := [(33, .iload 4, 35, []), (35, .iload_n 3, 36, []), (36, .if_icmp .ge 29, 39, [65]), (39, .iload_n 2, 40, []), (40, .iconst 4, 41, []), (41, .iload 4, 43, []), (43, .imul, 44, []), (44, .ishr, 45, []), (45, .bipush 15, 47, []), (47, .iand, 48, [])]
theorem kX8_only_2 : tX8_only_2.all (am_okE cX8_only) = true := by decide +kernel
def tX8_only_3 : List am_En := [(48, .aload_n 0, 49, []), (49, .getfield 25, 52, []), (52, .iload_n 1, 53, []), (53, .iaload, 54, []), (54, .if_icmp .lt 5, 57, [59]), (57, .iconst (-1), 58, []), (58, .ireturn, 59, []), (59, .iinc 4 1, 62, []), (62, .goto (-29), 65, [33])]
theorem kX8_only_3 : tX8_only_3.all (am_okE cX8_only) = true := by decide +kernel
def tX8_only_4 : List am_En := [(65, .aload_n 0, 66, []), (66, .bipush 14, 68, []), (68, .iconst 2, 69, []), (69, .iload_n 3, 70, []), (70, .iload_n 1, 71, []), (71, .iload_n 2, 72, []), (72, .iconst 0, 73, []), (73, .iconst 0, 74, []), (74, .invokevirtual 72, 77, []), (77, .istore 4, 79, []), (79, .aload_n 0, 80, [])]
theorem kX8_only_4 : tX8_only_4.all (am_okE cX8_only) = true := by decide +kernel
def tX8_only_5 : List am_En := [(80, .iload 4, 82, []), (82, .iload_n 1, 83, []), (83, .invokevirtual 80, 86, []), (86, .iload 4, 88, []), (88, .ireturn, 89, [])]
theorem kX8_only_5 : tX8_only_5.all (am_okE cX8_only) = true := by decide +kernel
def tX8_only : List (List am_En) := [tX8_only_0, tX8_only_1, tX8_only_2, tX8_only_3, tX8_only_4, tX8_only_5]
def mX8_only : am_MR := (yX8_only, cX8_only, 5, (some .int), 8, 3, (0, 0), tX8_only)
theorem kX8_only : am_chk cX8_only tX8_only = true := am_chk_c kX8_only_0 (am_chk_c kX8_only_1 (am_chk_c kX8_only_2 (am_chk_c kX8_only_3 (am_chk_c kX8_only_4 (am_chk_c kX8_only_5 (rfl))))))
def tX8_pairs_0 : List am_En := [(0, .aload_n 0, 1, []), (1, .getfield 69, 4, []), (4, .bipush 120, 6, []), (6, .if_icmp .eq 39, 9, [45]), (9, .aload_n 0, 10, []), (10, .iload_n 1, 11, []), (11, .iconst 2, 12, []), (12, .invokevirtual 76, 15, []), (15, .ifCond .eq 30, 18, [45])]
theorem kX8_pairs_0 : tX8_pairs_0.all (am_okE cX8_pairs) = true := by decide +kernel
def tX8_pairs_1 : List am_En := [(18, .aload_n 0, 19, []), (19, .iload_n 2, 20, []), (20, .iconst 2, 21, []), (21, .invokevirtual 76, 24, []), (24, .ifCond .eq 21, 27, [45]), (27, .aload_n 0, 28, []), (28, .getfield 25, 31, []), (31, .iload_n 1, 32, [])]
theorem kX8_pairs_1 : tX8_pairs_1.all (am_okE cX8_pairs) = true := by decide +kernel
def tX8_pairs_2 : List am_En := [(32, .iaload, 33, []), (33, .aload_n 0, 34, []), (34, .getfield 25, 37, []), (37, .iload_n 2, 38, []), (38, .iaload, 39, []), (39, .iadd, 40, []), (40, .bipush 8, 42, []), (42, .if_icmp .le 5, 45, [47]), (45, .iconst (-1), 46, []), (46, .ireturn, 47, []), (47, .aload_n 0, 48, [])]
theorem kX8_pairs_2 : tX8_pairs_2.all (am_okE cX8_pairs) = true := by decide +kernel
def tX8_pairs_3 : List am_En := [(48, .bipush 15, 50, []), (50, .iconst 2, 51, []), (51, .aload_n 0, 52, []), (52, .getfield 25, 55, []), (55, .iload_n 1, 56, []), (56, .iaload, 57, []), (57, .aload_n 0, 58, []), (58, .getfield 25, 61, []), (61, .iload_n 2, 62, []), (62, .iaload, 63, []), (63, .iadd, 64, [])]
theorem kX8_pairs_3 : tX8_pairs_3.all (am_okE cX8_pairs) = true := by decide +kernel
def tX8_pairs_4 : List am_En := [(64, .iload_n 1, 65, []), (65, .iload_n 2, 66, []), (66, .iconst 0, 67, []), (67, .iconst 0, 68, []), (68, .invokevirtual 72, 71, []), (71, .istore_n 3, 72, []), (72, .aload_n 0, 73, []), (73, .iload_n 3, 74, []), (74, .iload_n 1, 75, []), (75, .invokevirtual 80, 78, []), (78, .aload_n 0, 79, []), (79, .iload_n 3, 80, [])]
theorem kX8_pairs_4 : tX8_pairs_4.all (am_okE cX8_pairs) = true := by decide +kernel
def tX8_pairs_5 : List am_En := [(80, .iload_n 2, 81, []), (81, .invokevirtual 80, 84, []), (84, .iload_n 3, 85, []), (85, .ireturn, 86, [])]
theorem kX8_pairs_5 : tX8_pairs_5.all (am_okE cX8_pairs) = true := by decide +kernel
def tX8_pairs : List (List am_En) := [tX8_pairs_0, tX8_pairs_1, tX8_pairs_2, tX8_pairs_3, tX8_pairs_4, tX8_pairs_5]
def mX8_pairs : am_MR := (yX8_pairs, cX8_pairs, 4, (some .int), 8, 2, (0, 0), tX8_pairs)
theorem kX8_pairs : am_chk cX8_pairs tX8_pairs = true := am_chk_c kX8_pairs_0 (am_chk_c kX8_pairs_1 (am_chk_c kX8_pairs_2 (am_chk_c kX8_pairs_3 (am_chk_c kX8_pairs_4 (am_chk_c kX8_pairs_5 (rfl))))))
def tX8_apply_0 : List am_En := [(0, .aload_n 0, 1, []), (1, .getfield 69, 4, []), (4, .bipush 120, 6, []), (6, .if_icmp .eq 62, 9, [68]), (9, .iload_n 1, 10, []), (10, .iconst 0, 11, []), (11, .iconst 3, 12, []), (12, .invokestatic 65, 15, []), (15, .ifCond .eq 53, 18, [68])]
theorem kX8_apply_0 : tX8_apply_0.all (am_okE cX8_apply) = true := by decide +kernel
def tX8_apply_1 : List am_En := [(18, .aload_n 0, 19, []), (19, .iload_n 2, 20, []), (20, .iconst 2, 21, []), (21, .invokevirtual 76, 24, []), (24, .ifCond .eq 44, 27, [68]), (27, .aload_n 0, 28, []), (28, .iload_n 3, 29, []), (29, .iconst 2, 30, []), (30, .invokevirtual 76, 33, [])]
theorem kX8_apply_1 : tX8_apply_1.all (am_okE cX8_apply) = true := by decide +kernel
def tX8_apply_2 : List am_En := [(33, .ifCond .eq 35, 36, [68]), (36, .aload_n 0, 37, []), (37, .iload_n 2, 38, []), (38, .iload_n 3, 39, []), (39, .invokevirtual 88, 42, []), (42, .ifCond .eq 26, 45, [68]), (45, .iload_n 1, 46, []), (46, .iconst 2, 47, []), (47, .if_icmp .ge 23, 50, [70])]
theorem kX8_apply_2 : tX8_apply_2.all (am_okE cX8_apply) = true := by decide +kernel
def tX8_apply_3 : List am_En := [(50, .aload_n 0, 51, []), (51, .getfield 25, 54, []), (54, .iload_n 2, 55, []), (55, .iaload, 56, []), (56, .aload_n 0, 57, []), (57, .getfield 25, 60, []), (60, .iload_n 3, 61, []), (61, .iaload, 62, []), (62, .iadd, 63, []), (63, .bipush 8, 65, [])]
theorem kX8_apply_3 : tX8_apply_3.all (am_okE cX8_apply) = true := by decide +kernel
def tX8_apply_4 : List am_En := [(65, .if_icmp .le 5, 68, [70]), (68, .iconst (-1), 69, []), (69, .ireturn, 70, []), (70, .aload_n 0, 71, []), (71, .bipush 16, 73, []), (73, .iconst 2, 74, []), (74, .iload_n 1, 75, []), (75, .iconst 2, 76, []), (76, .if_icmp .ge 19, 79, [95]), (79, .aload_n 0, 80, [])]
theorem kX8_apply_4 : tX8_apply_4.all (am_okE cX8_apply) = true := by decide +kernel
def tX8_apply_5 : List am_En := [(80, .getfield 25, 83, []), (83, .iload_n 2, 84, []), (84, .iaload, 85, []), (85, .aload_n 0, 86, []), (86, .getfield 25, 89, []), (89, .iload_n 3, 90, []), (90, .iaload, 91, []), (91, .iadd, 92, []), (92, .goto 9, 95, [101]), (95, .aload_n 0, 96, [])]
theorem kX8_apply_5 : tX8_apply_5.all (am_okE cX8_apply) = true := by decide +kernel
def tX8_apply_6 : List am_En := [(96, .getfield 25, 99, []), (99, .iload_n 2, 100, []), (100, .iaload, 101, []), (101, .iload_n 2, 102, []), (102, .iload_n 3, 103, []), (103, .iload_n 1, 104, []), (104, .iconst 0, 105, []), (105, .invokevirtual 72, 108, []), (108, .istore 4, 110, []), (110, .aload_n 0, 111, []), (111, .iload 4, 113, [])]
theorem kX8_apply_6 : tX8_apply_6.all (am_okE cX8_apply) = true := by decide +kernel
def tX8_apply_7 : List am_En := [(113, .iload_n 2, 114, []), (114, .invokevirtual 80, 117, []), (117, .aload_n 0, 118, []), (118, .iload 4, 120, []), (120, .iload_n 3, 121, []), (121, .invokevirtual 91, 124, []), (124, .iload 4, 126, []), (126, .ireturn, 127, [])]
theorem kX8_apply_7 : tX8_apply_7.all (am_okE cX8_apply) = true := by decide +kernel
def tX8_apply : List (List am_En) := [tX8_apply_0, tX8_apply_1, tX8_apply_2, tX8_apply_3, tX8_apply_4, tX8_apply_5, tX8_apply_6, tX8_apply_7]
def mX8_apply : am_MR := (yX8_apply, cX8_apply, 5, (some .int), 8, 3, (0, 0), tX8_apply)
theorem kX8_apply : am_chk cX8_apply tX8_apply = true := am_chk_c kX8_apply_0 (am_chk_c kX8_apply_1 (am_chk_c kX8_apply_2 (am_chk_c kX8_apply_3 (am_chk_c kX8_apply_4 (am_chk_c kX8_apply_5 (am_chk_c kX8_apply_6 (am_chk_c kX8_apply_7 (rfl))))))))
def tX8_both_0 : List am_En := [(0, .aload_n 0, 1, []), (1, .getfield 69, 4, []), (4, .bipush 120, 6, []), (6, .if_icmp .eq 45, 9, [51]), (9, .iload_n 1, 10, []), (10, .iconst 0, 11, []), (11, .iconst 2, 12, []), (12, .invokestatic 65, 15, []), (15, .ifCond .eq 36, 18, [51])]
theorem kX8_both_0 : tX8_both_0.all (am_okE cX8_both) = true := by decide +kernel
def tX8_both_1 : List am_En := [(18, .aload_n 0, 19, []), (19, .iload_n 2, 20, []), (20, .iconst 2, 21, []), (21, .invokevirtual 76, 24, []), (24, .ifCond .eq 27, 27, [51]), (27, .aload_n 0, 28, []), (28, .iload_n 3, 29, []), (29, .iconst 2, 30, []), (30, .invokevirtual 76, 33, [])]
theorem kX8_both_1 : tX8_both_1.all (am_okE cX8_both) = true := by decide +kernel
def tX8_both_2 : List am_En := [(33, .ifCond .eq 18, 36, [51]), (36, .aload_n 0, 37, []), (37, .getfield 25, 40, []), (40, .iload_n 2, 41, []), (41, .iaload, 42, []), (42, .aload_n 0, 43, []), (43, .getfield 25, 46, []), (46, .iload_n 3, 47, []), (47, .iaload, 48, [])]
theorem kX8_both_2 : tX8_both_2.all (am_okE cX8_both) = true := by decide +kernel
def tX8_both_3 : List am_En := [(48, .if_icmp .eq 5, 51, [53]), (51, .iconst (-1), 52, []), (52, .ireturn, 53, []), (53, .aload_n 0, 54, []), (54, .bipush 17, 56, []), (56, .iconst 2, 57, []), (57, .aload_n 0, 58, []), (58, .getfield 25, 61, []), (61, .iload_n 2, 62, []), (62, .iaload, 63, []), (63, .iload_n 2, 64, [])]
theorem kX8_both_3 : tX8_both_3.all (am_okE cX8_both) = true := by decide +kernel
def tX8_both_4 : List am_En := [(64, .iload_n 3, 65, []), (65, .iload_n 1, 66, []), (66, .iconst 0, 67, []), (67, .invokevirtual 72, 70, []), (70, .istore 4, 72, []), (72, .aload_n 0, 73, []), (73, .iload 4, 75, []), (75, .iload_n 2, 76, []), (76, .invokevirtual 80, 79, []), (79, .aload_n 0, 80, [])]
theorem kX8_both_4 : tX8_both_4.all (am_okE cX8_both) = true := by decide +kernel
def tX8_both_5 : List am_En := [(80, .iload 4, 82, []), (82, .iload_n 3, 83, []), (83, .invokevirtual 80, 86, []), (86, .iload 4, 88, []), (88, .ireturn, 89, [])]
theorem kX8_both_5 : tX8_both_5.all (am_okE cX8_both) = true := by decide +kernel
def tX8_both : List (List am_En) := [tX8_both_0, tX8_both_1, tX8_both_2, tX8_both_3, tX8_both_4, tX8_both_5]
def mX8_both : am_MR := (yX8_both, cX8_both, 5, (some .int), 8, 3, (0, 0), tX8_both)
theorem kX8_both : am_chk cX8_both tX8_both = true := am_chk_c kX8_both_0 (am_chk_c kX8_both_1 (am_chk_c kX8_both_2 (am_chk_c kX8_both_3 (am_chk_c kX8_both_4 (am_chk_c kX8_both_5 (rfl))))))
def tX8_once_0 : List am_En := [(0, .aload_n 0, 1, []), (1, .getfield 69, 4, []), (4, .bipush 120, 6, []), (6, .if_icmp .eq 12, 9, [18]), (9, .aload_n 0, 10, []), (10, .iload_n 1, 11, []), (11, .iconst 2, 12, []), (12, .invokevirtual 76, 15, []), (15, .ifCond .ne 5, 18, [20])]
theorem kX8_once_0 : tX8_once_0.all (am_okE cX8_once) = true := by decide +kernel
def tX8_once_1 : List am_En := [(18, .iconst (-1), 19, []), (19, .ireturn, 20, []), (20, .aload_n 0, 21, []), (21, .bipush 18, 23, []), (23, .iconst 2, 24, []), (24, .aload_n 0, 25, []), (25, .getfield 25, 28, []), (28, .iload_n 1, 29, []), (29, .iaload, 30, []), (30, .iload_n 1, 31, []), (31, .iconst 0, 32, [])]
theorem kX8_once_1 : tX8_once_1.all (am_okE cX8_once) = true := by decide +kernel
def tX8_once_2 : List am_En := [(32, .iconst 0, 33, []), (33, .iconst 0, 34, []), (34, .invokevirtual 72, 37, []), (37, .istore_n 2, 38, []), (38, .aload_n 0, 39, []), (39, .iload_n 2, 40, []), (40, .iload_n 1, 41, []), (41, .invokevirtual 80, 44, []), (44, .iload_n 2, 45, []), (45, .ireturn, 46, [])]
theorem kX8_once_2 : tX8_once_2.all (am_okE cX8_once) = true := by decide +kernel
def tX8_once : List (List am_En) := [tX8_once_0, tX8_once_1, tX8_once_2]
def mX8_once : am_MR := (yX8_once, cX8_once, 3, (some .int), 8, 1, (0, 0), tX8_once)
theorem kX8_once : am_chk cX8_once tX8_once = true := am_chk_c kX8_once_0 (am_chk_c kX8_once_1 (am_chk_c kX8_once_2 (rfl)))
def tX8_first_0 : List am_En := [(0, .aload_n 0, 1, []), (1, .getfield 69, 4, []), (4, .bipush 120, 6, []), (6, .if_icmp .eq 22, 9, [28]), (9, .aload_n 0, 10, []), (10, .iload_n 1, 11, []), (11, .iconst 2, 12, []), (12, .invokevirtual 76, 15, []), (15, .ifCond .eq 13, 18, [28])]
theorem kX8_first_0 : tX8_first_0.all (am_okE cX8_first) = true := by decide +kernel
def tX8_first_1 : List am_En := [(18, .iload_n 2, 19, []), (19, .iconst 1, 20, []), (20, .bipush 24, 22, []), (22, .invokestatic 65, 25, []), (25, .ifCond .ne 5, 28, [30]), (28, .iconst (-1), 29, []), (29, .ireturn, 30, []), (30, .aload_n 0, 31, []), (31, .bipush 19, 33, [])]
theorem kX8_first_1 : tX8_first_1.all (am_okE cX8_first) = true := by decide +kernel
def tX8_first_2 : List am_En := [(33, .iconst 2, 34, []), (34, .aload_n 0, 35, []), (35, .getfield 25, 38, []), (38, .iload_n 1, 39, []), (39, .iaload, 40, []), (40, .iload_n 1, 41, []), (41, .iload_n 2, 42, []), (42, .iconst 0, 43, []), (43, .iconst 0, 44, []), (44, .invokevirtual 72, 47, []), (47, .istore_n 3, 48, [])]
theorem kX8_first_2 : tX8_first_2.all (am_okE cX8_first) = true := by decide +kernel
def tX8_first_3 : List am_En := [(48, .aload_n 0, 49, []), (49, .iload_n 3, 50, []), (50, .iload_n 1, 51, []), (51, .invokevirtual 80, 54, []), (54, .iload_n 3, 55, []), (55, .ireturn, 56, [])]
theorem kX8_first_3 : tX8_first_3.all (am_okE cX8_first) = true := by decide +kernel
def tX8_first : List (List am_En) := [tX8_first_0, tX8_first_1, tX8_first_2, tX8_first_3]
def mX8_first : am_MR := (yX8_first, cX8_first, 4, (some .int), 8, 2, (0, 0), tX8_first)
theorem kX8_first : am_chk cX8_first tX8_first = true := am_chk_c kX8_first_0 (am_chk_c kX8_first_1 (am_chk_c kX8_first_2 (am_chk_c kX8_first_3 (rfl))))
def tX8_groups_0 : List am_En := [(0, .aload_n 0, 1, []), (1, .getfield 69, 4, []), (4, .bipush 120, 6, []), (6, .if_icmp .eq 60, 9, [66]), (9, .aload_n 0, 10, []), (10, .iload_n 1, 11, []), (11, .iconst 2, 12, []), (12, .invokevirtual 76, 15, []), (15, .ifCond .eq 51, 18, [66])]
theorem kX8_groups_0 : tX8_groups_0.all (am_okE cX8_groups) = true := by decide +kernel
def tX8_groups_1 : List am_En := [(18, .iload_n 3, 19, []), (19, .iconst 0, 20, []), (20, .iconst 5, 21, []), (21, .invokestatic 65, 24, []), (24, .ifCond .eq 42, 27, [66]), (27, .iload 4, 29, []), (29, .iconst 0, 30, []), (30, .aload_n 0, 31, []), (31, .getfield 25, 34, [])]
theorem kX8_groups_1 : tX8_groups_1.all (am_okE cX8_groups) = true := by decide +kernel
def tX8_groups_2 : List am_En := [(34, .iload_n 1, 35, []), (35, .iaload, 36, []), (36, .iconst 1, 37, []), (37, .isub, 38, []), (38, .invokestatic 65, 41, []), (41, .ifCond .eq 25, 44, [66]), (44, .iload_n 2, 45, []), (45, .ifCond .lt 21, 48, [66])]
theorem kX8_groups_2 : tX8_groups_2.all (am_okE cX8_groups) = true := by decide +kernel
def tX8_groups_3 : List am_En := [(48, .iload_n 2, 49, []), (49, .aload_n 0, 50, []), (50, .getfield 25, 53, []), (53, .iload_n 1, 54, []), (54, .iaload, 55, []), (55, .ishr, 56, []), (56, .ifCond .ne 10, 59, [66]), (59, .iload_n 2, 60, []), (60, .sipush 255, 63, []), (63, .if_icmp .ne 5, 66, [68])]
theorem kX8_groups_3 : tX8_groups_3.all (am_okE cX8_groups) = true := by decide +kernel
def tX8_groups_4 : List am_En := [(66, .iconst (-1), 67, []), (67, .ireturn, 68, []), (68, .aload_n 0, 69, []), (69, .bipush 20, 71, []), (71, .iconst 2, 72, []), (72, .iload_n 2, 73, []), (73, .invokestatic 94, 76, []), (76, .iconst 1, 77, []), (77, .iadd, 78, []), (78, .iload_n 1, 79, []), (79, .iload_n 2, 80, [])]
theorem kX8_groups_4 : tX8_groups_4.all (am_okE cX8_groups) = true := by decide +kernel
def tX8_groups_5 : List am_En := [(80, .iload_n 3, 81, []), (81, .iload 4, 83, []), (83, .invokevirtual 72, 86, []), (86, .istore 5, 88, []), (88, .aload_n 0, 89, []), (89, .iload 5, 91, []), (91, .iload_n 1, 92, []), (92, .invokevirtual 80, 95, []), (95, .iload 5, 97, [])]
theorem kX8_groups_5 : tX8_groups_5.all (am_okE cX8_groups) = true := by decide +kernel
def tX8_groups_6 : List am_En := [(97, .ireturn, 98, [])]
theorem kX8_groups_6 : tX8_groups_6.all (am_okE cX8_groups) = true := by decide +kernel
def tX8_groups : List (List am_En) := [tX8_groups_0, tX8_groups_1, tX8_groups_2, tX8_groups_3, tX8_groups_4, tX8_groups_5, tX8_groups_6]
def mX8_groups : am_MR := (yX8_groups, cX8_groups, 6, (some .int), 8, 4, (0, 0), tX8_groups)
theorem kX8_groups : am_chk cX8_groups tX8_groups = true := am_chk_c kX8_groups_0 (am_chk_c kX8_groups_1 (am_chk_c kX8_groups_2 (am_chk_c kX8_groups_3 (am_chk_c kX8_groups_4 (am_chk_c kX8_groups_5 (am_chk_c kX8_groups_6 (rfl)))))))
def tX8_bits_0 : List am_En := [(0, .iconst 0, 1, []), (1, .istore_n 1, 2, []), (2, .iconst 0, 3, []), (3, .istore_n 2, 4, []), (4, .iload_n 2, 5, []), (5, .bipush 8, 7, []), (7, .if_icmp .ge 17, 10, [24]), (10, .iload_n 1, 11, []), (11, .iload_n 0, 12, []), (12, .iload_n 2, 13, []), (13, .ishr, 14, []), (14, .iconst 1, 15, []), (15, .iand, 16, [])]
theorem kX8_bits_0 : tX8_bits_0.all (am_okE cX8_bits) = true := by decide +kernel
def tX8_bits_1 : List am_En := [(16, .iadd, 17, []), (17, .istore_n 1, 18, []), (18, .iinc 2 1, 21, []), (21, .goto (-17), 24, [4]), (24, .iload_n 1, 25, []), (25, .ireturn, 26, [])]
theorem kX8_bits_1 : tX8_bits_1.all (am_okE cX8_bits) = true := by decide +kernel
def tX8_bits : List (List am_En) := [tX8_bits_0, tX8_bits_1]
def mX8_bits : am_MR := (yX8_bits, cX8_bits, 3, (some .int), 8, 1, (0, 0), tX8_bits)
theorem kX8_bits : am_chk cX8_bits tX8_bits = true := am_chk_c kX8_bits_0 (am_chk_c kX8_bits_1 (rfl))
def tX8_forget_0 : List am_En := [(0, .aload_n 0, 1, []), (1, .getfield 69, 4, []), (4, .istore_n 1, 5, []), (5, .aload_n 0, 6, []), (6, .iconst 0, 7, []), (7, .putfield 69, 10, []), (10, .iload_n 1, 11, []), (11, .ireturn, 12, [])]
theorem kX8_forget_0 : tX8_forget_0.all (am_okE cX8_forget) = true := by decide +kernel
def tX8_forget : List (List am_En) := [tX8_forget_0]
def mX8_forget : am_MR := (yX8_forget, cX8_forget, 2, (some .int), 8, 0, (0, 0), tX8_forget)
theorem kX8_forget : am_chk cX8_forget tX8_forget = true := am_chk_c kX8_forget_0 (rfl)
def tX8_told_0 : List am_En := [(0, .iload_n 1, 1, []), (1, .iconst 0, 2, []), (2, .aload_n 0, 3, []), (3, .getfield 69, 6, []), (6, .iconst 1, 7, []), (7, .isub, 8, []), (8, .invokestatic 65, 11, []), (11, .ifCond .eq 13, 14, [24]), (14, .iload_n 2, 15, []), (15, .iconst 0, 16, [])]
theorem kX8_told_0 : tX8_told_0.all (am_okE cX8_told) = true := by decide +kernel
def tX8_told_1 : List am_En := [(16, .bipush 7, 18, []), (18, .invokestatic 65, 21, []), (21, .ifCond .ne 5, 24, [26]), (24, .iconst (-1), 25, []), (25, .ireturn, 26, []), (26, .aload_n 0, 27, []), (27, .invokevirtual 111, 30, []), (30, .iload_n 2, 31, []), (31, .iconst 2, 32, [])]
theorem kX8_told_1 : tX8_told_1.all (am_okE cX8_told) = true := by decide +kernel
def tX8_told_2 : List am_En := [(32, .if_icmp .ge 23, 35, [55]), (35, .iload_n 2, 36, []), (36, .ifCond .ne 12, 39, [48]), (39, .aload_n 0, 40, []), (40, .getfield 22, 43, []), (43, .iload_n 1, 44, []), (44, .iaload, 45, []), (45, .goto 9, 48, [54])]
theorem kX8_told_2 : tX8_told_2.all (am_okE cX8_told) = true := by decide +kernel
def tX8_told_3 : List am_En := [(48, .aload_n 0, 49, []), (49, .getfield 25, 52, []), (52, .iload_n 1, 53, []), (53, .iaload, 54, []), (54, .ireturn, 55, []), (55, .iload_n 2, 56, []), (56, .iconst 2, 57, []), (57, .if_icmp .ne 13, 60, [70]), (60, .aload_n 0, 61, []), (61, .getfield 47, 64, [])]
theorem kX8_told_3 : tX8_told_3.all (am_okE cX8_told) = true := by decide +kernel
def tX8_told_4 : List am_En := [(64, .iload_n 1, 65, []), (65, .laload, 66, []), (66, .l2i, 67, []), (67, .goto 31, 70, [98]), (70, .iload_n 2, 71, []), (71, .bipush 7, 73, []), (73, .if_icmp .ne 13, 76, [86]), (76, .aload_n 0, 77, []), (77, .getfield 43, 80, [])]
theorem kX8_told_4 : tX8_told_4.all (am_okE cX8_told) = true := by decide +kernel
def tX8_told_5 : List am_En := [(80, .iload_n 1, 81, []), (81, .laload, 82, []), (82, .l2i, 83, []), (83, .goto 15, 86, [98]), (86, .aload_n 0, 87, []), (87, .getfield 40, 90, []), (90, .iconst 4, 91, []), (91, .iload_n 1, 92, []), (92, .imul, 93, []), (93, .iload_n 2, 94, []), (94, .iadd, 95, []), (95, .iconst 3, 96, [])]
theorem kX8_told_5 : tX8_told_5.all (am_okE cX8_told) = true := by decide +kernel
def tX8_told_6 : List am_En := [(96, .isub, 97, []), (97, .iaload, 98, []), (98, .ireturn, 99, [])]
theorem kX8_told_6 : tX8_told_6.all (am_okE cX8_told) = true := by decide +kernel
def tX8_told : List (List am_En) := [tX8_told_0, tX8_told_1, tX8_told_2, tX8_told_3, tX8_told_4, tX8_told_5, tX8_told_6]
def mX8_told : am_MR := (yX8_told, cX8_told, 3, (some .int), 8, 2, (0, 0), tX8_told)
theorem kX8_told : am_chk cX8_told tX8_told = true := am_chk_c kX8_told_0 (am_chk_c kX8_told_1 (am_chk_c kX8_told_2 (am_chk_c kX8_told_3 (am_chk_c kX8_told_4 (am_chk_c kX8_told_5 (am_chk_c kX8_told_6 (rfl)))))))
def tX8_measure_0 : List am_En := [(0, .iconst 0, 1, []), (1, .istore_n 1, 2, []), (2, .iload_n 1, 3, []), (3, .aload_n 0, 4, []), (4, .getfield 69, 7, []), (7, .if_icmp .ge 97, 10, [104]), (10, .aload_n 0, 11, []), (11, .getfield 19, 14, []), (14, .iload_n 1, 15, []), (15, .iaload, 16, [])]
theorem kX8_measure_0 : tX8_measure_0.all (am_okE cX8_measure) = true := by decide +kernel
def tX8_measure_1 : List am_En := [(16, .bipush 11, 18, []), (18, .if_icmp .ne 38, 21, [56]), (21, .aload_n 0, 22, []), (22, .getfield 43, 25, []), (25, .iload_n 1, 26, []), (26, .aload_n 0, 27, []), (27, .getfield 13, 30, []), (30, .aload_n 0, 31, []), (31, .getfield 28, 34, [])]
theorem kX8_measure_1 : tX8_measure_1.all (am_okE cX8_measure) = true := by decide +kernel
def tX8_measure_2 : List am_En := [(34, .iload_n 1, 35, []), (35, .iaload, 36, []), (36, .iaload, 37, []), (37, .i2l, 38, []), (38, .lastore, 39, []), (39, .aload_n 0, 40, []), (40, .getfield 47, 43, []), (43, .iload_n 1, 44, []), (44, .aload_n 0, 45, []), (45, .getfield 43, 48, [])]
theorem kX8_measure_2 : tX8_measure_2.all (am_okE cX8_measure) = true := by decide +kernel
def tX8_measure_3 : List am_En := [(48, .iload_n 1, 49, []), (49, .laload, 50, []), (50, .lconst 1, 51, []), (51, .ladd, 52, []), (52, .lastore, 53, []), (53, .goto 45, 56, [98]), (56, .aload_n 0, 57, []), (57, .getfield 43, 60, []), (60, .iload_n 1, 61, []), (61, .aload_n 0, 62, []), (62, .getfield 22, 65, [])]
theorem kX8_measure_3 : tX8_measure_3.all (am_okE cX8_measure) = true := by decide +kernel
def tX8_measure_4 : List am_En := [(65, .iload_n 1, 66, []), (66, .iaload, 67, []), (67, .iconst 2, 68, []), (68, .if_icmp .ne 14, 71, [82]), (71, .aload_n 0, 72, []), (72, .iload_n 1, 73, []), (73, .invokevirtual 100, 76, []), (76, .invokestatic 104, 79, []), (79, .goto 4, 82, [83])]
theorem kX8_measure_4 : tX8_measure_4.all (am_okE cX8_measure) = true := by decide +kernel
def tX8_measure_5 : List am_En := [(82, .lconst 0, 83, []), (83, .lastore, 84, []), (84, .aload_n 0, 85, []), (85, .getfield 47, 88, []), (88, .iload_n 1, 89, []), (89, .aload_n 0, 90, []), (90, .iload_n 1, 91, []), (91, .invokevirtual 108, 94, []), (94, .invokestatic 104, 97, [])]
theorem kX8_measure_5 : tX8_measure_5.all (am_okE cX8_measure) = true := by decide +kernel
def tX8_measure_6 : List am_En := [(97, .lastore, 98, []), (98, .iinc 1 1, 101, []), (101, .goto (-99), 104, [2]), (104, .return_, 105, [])]
theorem kX8_measure_6 : tX8_measure_6.all (am_okE cX8_measure) = true := by decide +kernel
def tX8_measure : List (List am_En) := [tX8_measure_0, tX8_measure_1, tX8_measure_2, tX8_measure_3, tX8_measure_4, tX8_measure_5, tX8_measure_6]
def mX8_measure : am_MR := (yX8_measure, cX8_measure, 2, none, 8, 0, (0, 0), tX8_measure)
theorem kX8_measure : am_chk cX8_measure tX8_measure = true := am_chk_c kX8_measure_0 (am_chk_c kX8_measure_1 (am_chk_c kX8_measure_2 (am_chk_c kX8_measure_3 (am_chk_c kX8_measure_4 (am_chk_c kX8_measure_5 (am_chk_c kX8_measure_6 (rfl)))))))
def tX8_sizeOf_0 : List am_En := [(0, .aload_n 0, 1, []), (1, .getfield 43, 4, []), (4, .aload_n 0, 5, []), (5, .getfield 28, 8, []), (8, .iload_n 1, 9, []), (9, .iaload, 10, []), (10, .laload, 11, []), (11, .lstore_n 2, 12, []), (12, .aload_n 0, 13, []), (13, .getfield 19, 16, [])]
theorem kX8_sizeOf_0 : tX8_sizeOf_0.all (am_okE cX8_sizeOf) = true := by decide +kernel
def tX8_sizeOf_1 : List am_En := [(16, .iload_n 1, 17, []), (17, .iaload, 18, []), (18, .bipush 15, 20, []), (20, .if_icmp .eq 23, 23, [43]), (23, .aload_n 0, 24, []), (24, .getfield 19, 27, []), (27, .iload_n 1, 28, []), (28, .iaload, 29, []), (29, .bipush 16, 31, []), (31, .if_icmp .ne 26, 34, [57])]
theorem kX8_sizeOf_1 : tX8_sizeOf_1.all (am_okE cX8_sizeOf) = true := by decide +kernel
def tX8_sizeOf_2 : List am_En := [(34, .aload_n 0, 35, []), (35, .getfield 34, 38, []), (38, .iload_n 1, 39, []), (39, .iaload, 40, []), (40, .ifCond .ne 17, 43, [57]), (43, .lload_n 2, 44, []), (44, .aload_n 0, 45, []), (45, .getfield 43, 48, [])]
theorem kX8_sizeOf_2 : tX8_sizeOf_2.all (am_okE cX8_sizeOf) = true := by decide +kernel
def tX8_sizeOf_3 : List am_En := [(48, .aload_n 0, 49, []), (49, .getfield 31, 52, []), (52, .iload_n 1, 53, []), (53, .iaload, 54, []), (54, .laload, 55, []), (55, .lmul, 56, []), (56, .lreturn, 57, []), (57, .aload_n 0, 58, []), (58, .getfield 19, 61, []), (61, .iload_n 1, 62, []), (62, .iaload, 63, []), (63, .bipush 16, 65, [])]
theorem kX8_sizeOf_3 : tX8_sizeOf_3.all (am_okE cX8_sizeOf) = true := by decide +kernel
def tX8_sizeOf_4 : List am_En := [(65, .if_icmp .ne 47, 68, [112]), (68, .aload_n 0, 69, []), (69, .getfield 34, 72, []), (72, .iload_n 1, 73, []), (73, .iaload, 74, []), (74, .iconst 1, 75, []), (75, .if_icmp .ne 37, 78, [112]), (78, .lload_n 2, 79, []), (79, .aload_n 0, 80, [])]
theorem kX8_sizeOf_4 : tX8_sizeOf_4.all (am_okE cX8_sizeOf) = true := by decide +kernel
def tX8_sizeOf_5 : List am_En := [(80, .getfield 43, 83, []), (83, .aload_n 0, 84, []), (84, .getfield 31, 87, []), (87, .iload_n 1, 88, []), (88, .iaload, 89, []), (89, .laload, 90, []), (90, .lconst 0, 91, []), (91, .lcmp, 92, []), (92, .ifCond .ne 7, 95, [99]), (95, .lconst 1, 96, [])]
theorem kX8_sizeOf_5 : tX8_sizeOf_5.all (am_okE cX8_sizeOf) = true := by decide +kernel
def tX8_sizeOf_6 : List am_En := [(96, .goto 14, 99, [110]), (99, .aload_n 0, 100, []), (100, .getfield 43, 103, []), (103, .aload_n 0, 104, []), (104, .getfield 31, 107, []), (107, .iload_n 1, 108, []), (108, .iaload, 109, []), (109, .laload, 110, []), (110, .lmul, 111, []), (111, .lreturn, 112, [])]
theorem kX8_sizeOf_6 : tX8_sizeOf_6.all (am_okE cX8_sizeOf) = true := by decide +kernel
def tX8_sizeOf_7 : List am_En := [(112, .aload_n 0, 113, []), (113, .getfield 19, 116, []), (116, .iload_n 1, 117, []), (117, .iaload, 118, []), (118, .bipush 17, 120, []), (120, .if_icmp .ne 26, 123, [146]), (123, .aload_n 0, 124, []), (124, .getfield 34, 127, []), (127, .iload_n 1, 128, [])]
theorem kX8_sizeOf_7 : tX8_sizeOf_7.all (am_okE cX8_sizeOf) = true := by decide +kernel
def tX8_sizeOf_8 : List am_En := [(128, .iaload, 129, []), (129, .ifCond .ne 17, 132, [146]), (132, .lload_n 2, 133, []), (133, .aload_n 0, 134, []), (134, .getfield 43, 137, []), (137, .aload_n 0, 138, []), (138, .getfield 31, 141, []), (141, .iload_n 1, 142, []), (142, .iaload, 143, []), (143, .laload, 144, [])]
theorem kX8_sizeOf_8 : tX8_sizeOf_8.all (am_okE cX8_sizeOf) = true := by decide +kernel
def tX8_sizeOf_9 : List am_En := [(144, .ladd, 145, []), (145, .lreturn, 146, []), (146, .aload_n 0, 147, []), (147, .getfield 19, 150, []), (150, .iload_n 1, 151, []), (151, .iaload, 152, []), (152, .bipush 20, 154, []), (154, .if_icmp .ne 15, 157, [169]), (157, .lload_n 2, 158, []), (158, .lconst 0, 159, []), (159, .lcmp, 160, [])]
theorem kX8_sizeOf_9 : tX8_sizeOf_9.all (am_okE cX8_sizeOf) = true := by decide +kernel
def tX8_sizeOf_10 : List am_En := [(160, .ifCond .ne 7, 163, [167]), (163, .lconst 1, 164, []), (164, .goto 4, 167, [168]), (167, .lload_n 2, 168, []), (168, .lreturn, 169, []), (169, .aload_n 0, 170, []), (170, .getfield 19, 173, []), (173, .iload_n 1, 174, []), (174, .iaload, 175, []), (175, .bipush 19, 177, [])]
theorem kX8_sizeOf_10 : tX8_sizeOf_10.all (am_okE cX8_sizeOf) = true := by decide +kernel
def tX8_sizeOf_11 : List am_En := [(177, .if_icmp .ne 25, 180, [202]), (180, .lload_n 2, 181, []), (181, .aload_n 0, 182, []), (182, .getfield 31, 185, []), (185, .iload_n 1, 186, []), (186, .iaload, 187, []), (187, .i2l, 188, []), (188, .lcmp, 189, []), (189, .ifCond .le 13, 192, [202])]
theorem kX8_sizeOf_11 : tX8_sizeOf_11.all (am_okE cX8_sizeOf) = true := by decide +kernel
def tX8_sizeOf_12 : List am_En := [(192, .aload_n 0, 193, []), (193, .getfield 31, 196, []), (196, .iload_n 1, 197, []), (197, .iaload, 198, []), (198, .i2l, 199, []), (199, .goto 4, 202, [203]), (202, .lload_n 2, 203, []), (203, .lreturn, 204, [])]
theorem kX8_sizeOf_12 : tX8_sizeOf_12.all (am_okE cX8_sizeOf) = true := by decide +kernel
def tX8_sizeOf : List (List am_En) := [tX8_sizeOf_0, tX8_sizeOf_1, tX8_sizeOf_2, tX8_sizeOf_3, tX8_sizeOf_4, tX8_sizeOf_5, tX8_sizeOf_6, tX8_sizeOf_7, tX8_sizeOf_8, tX8_sizeOf_9, tX8_sizeOf_10, tX8_sizeOf_11, tX8_sizeOf_12]
def mX8_sizeOf : am_MR := (yX8_sizeOf, cX8_sizeOf, 4, (some .long), 8, 1, (0, 0), tX8_sizeOf)
theorem kX8_sizeOf : am_chk cX8_sizeOf tX8_sizeOf = true := am_chk_c kX8_sizeOf_0 (am_chk_c kX8_sizeOf_1 (am_chk_c kX8_sizeOf_2 (am_chk_c kX8_sizeOf_3 (am_chk_c kX8_sizeOf_4 (am_chk_c kX8_sizeOf_5 (am_chk_c kX8_sizeOf_6 (am_chk_c kX8_sizeOf_7 (am_chk_c kX8_sizeOf_8 (am_chk_c kX8_sizeOf_9 (am_chk_c kX8_sizeOf_10 (am_chk_c kX8_sizeOf_11 (am_chk_c kX8_sizeOf_12 (rfl)))))))))))))
def tX8_cut_0 : List am_En := [(0, .lload_n 0, 1, []), (1, .ldc2_w 98, 4, []), (4, .lcmp, 5, []), (5, .ifCond .le 9, 8, [14]), (8, .ldc2_w 98, 11, []), (11, .goto 4, 14, [15]), (14, .lload_n 0, 15, []), (15, .lreturn, 16, [])]
theorem kX8_cut_0 : tX8_cut_0.all (am_okE cX8_cut) = true := by decide +kernel
def tX8_cut : List (List am_En) := [tX8_cut_0]
def mX8_cut : am_MR := (yX8_cut, cX8_cut, 2, (some .long), 8, 1, (0, 0), tX8_cut)
theorem kX8_cut : am_chk cX8_cut tX8_cut = true := am_chk_c kX8_cut_0 (rfl)
def tX8_costOf_0 : List am_En := [(0, .aload_n 0, 1, []), (1, .getfield 19, 4, []), (4, .iload_n 1, 5, []), (5, .iaload, 6, []), (6, .istore_n 2, 7, []), (7, .iload_n 2, 8, []), (8, .ifCond .eq 8, 11, [16]), (11, .iload_n 2, 12, []), (12, .iconst 1, 13, []), (13, .if_icmp .ne 5, 16, [18])]
theorem kX8_costOf_0 : tX8_costOf_0.all (am_okE cX8_costOf) = true := by decide +kernel
def tX8_costOf_1 : List am_En := [(16, .lconst 1, 17, []), (17, .lreturn, 18, []), (18, .iload_n 2, 19, []), (19, .bipush 12, 21, []), (21, .if_icmp .eq 15, 24, [36]), (24, .iload_n 2, 25, []), (25, .bipush 13, 27, []), (27, .if_icmp .eq 9, 30, [36]), (30, .iload_n 2, 31, []), (31, .bipush 16, 33, [])]
theorem kX8_costOf_1 : tX8_costOf_1.all (am_okE cX8_costOf) = true := by decide +kernel
def tX8_costOf_2 : List am_En := [(33, .if_icmp .ne 43, 36, [76]), (36, .aload_n 0, 37, []), (37, .getfield 47, 40, []), (40, .aload_n 0, 41, []), (41, .getfield 28, 44, []), (44, .iload_n 1, 45, []), (45, .iaload, 46, []), (46, .laload, 47, []), (47, .lconst 1, 48, [])]
theorem kX8_costOf_2 : tX8_costOf_2.all (am_okE cX8_costOf) = true := by decide +kernel
def tX8_costOf_3 : List am_En := [(48, .ladd, 49, []), (49, .aload_n 0, 50, []), (50, .getfield 47, 53, []), (53, .aload_n 0, 54, []), (54, .getfield 31, 57, []), (57, .iload_n 1, 58, []), (58, .iaload, 59, []), (59, .laload, 60, []), (60, .aload_n 0, 61, []), (61, .getfield 43, 64, [])]
theorem kX8_costOf_3 : tX8_costOf_3.all (am_okE cX8_costOf) = true := by decide +kernel
def tX8_costOf_4 : List am_En := [(64, .aload_n 0, 65, []), (65, .getfield 28, 68, []), (68, .iload_n 1, 69, []), (69, .iaload, 70, []), (70, .laload, 71, []), (71, .lconst 1, 72, []), (72, .ladd, 73, []), (73, .lmul, 74, []), (74, .ladd, 75, []), (75, .lreturn, 76, []), (76, .iload_n 2, 77, []), (77, .bipush 15, 79, []), (79, .if_icmp .ne 36, 82, [115])]
theorem kX8_costOf_4 : tX8_costOf_4.all (am_okE cX8_costOf) = true := by decide +kernel
def tX8_costOf_5 : List am_En := [(82, .aload_n 0, 83, []), (83, .getfield 47, 86, []), (86, .aload_n 0, 87, []), (87, .getfield 28, 90, []), (90, .iload_n 1, 91, []), (91, .iaload, 92, []), (92, .laload, 93, []), (93, .aload_n 0, 94, []), (94, .getfield 47, 97, [])]
theorem kX8_costOf_5 : tX8_costOf_5.all (am_okE cX8_costOf) = true := by decide +kernel
def tX8_costOf_6 : List am_En := [(97, .aload_n 0, 98, []), (98, .getfield 31, 101, []), (101, .iload_n 1, 102, []), (102, .iaload, 103, []), (103, .laload, 104, []), (104, .ladd, 105, []), (105, .lconst 1, 106, []), (106, .ladd, 107, []), (107, .aload_n 0, 108, []), (108, .getfield 43, 111, []), (111, .iload_n 1, 112, [])]
theorem kX8_costOf_6 : tX8_costOf_6.all (am_okE cX8_costOf) = true := by decide +kernel
def tX8_costOf_7 : List am_En := [(112, .laload, 113, []), (113, .ladd, 114, []), (114, .lreturn, 115, []), (115, .iload_n 2, 116, []), (116, .bipush 17, 118, []), (118, .if_icmp .ne 29, 121, [147]), (121, .aload_n 0, 122, []), (122, .getfield 47, 125, []), (125, .aload_n 0, 126, []), (126, .getfield 28, 129, [])]
theorem kX8_costOf_7 : tX8_costOf_7.all (am_okE cX8_costOf) = true := by decide +kernel
def tX8_costOf_8 : List am_En := [(129, .iload_n 1, 130, []), (130, .iaload, 131, []), (131, .laload, 132, []), (132, .aload_n 0, 133, []), (133, .getfield 47, 136, []), (136, .aload_n 0, 137, []), (137, .getfield 31, 140, []), (140, .iload_n 1, 141, []), (141, .iaload, 142, []), (142, .laload, 143, []), (143, .ladd, 144, [])]
theorem kX8_costOf_8 : tX8_costOf_8.all (am_okE cX8_costOf) = true := by decide +kernel
def tX8_costOf_9 : List am_En := [(144, .lconst 1, 145, []), (145, .ladd, 146, []), (146, .lreturn, 147, []), (147, .iload_n 2, 148, []), (148, .iconst 2, 149, []), (149, .if_icmp .eq 20, 152, [169]), (152, .iload_n 2, 153, []), (153, .iconst 5, 154, []), (154, .if_icmp .eq 15, 157, [169]), (157, .iload_n 2, 158, []), (158, .bipush 9, 160, [])]
theorem kX8_costOf_9 : tX8_costOf_9.all (am_okE cX8_costOf) = true := by decide +kernel
def tX8_costOf_10 : List am_En := [(160, .if_icmp .eq 9, 163, [169]), (163, .iload_n 2, 164, []), (164, .bipush 10, 166, []), (166, .if_icmp .ne 29, 169, [195]), (169, .aload_n 0, 170, []), (170, .getfield 47, 173, []), (173, .aload_n 0, 174, []), (174, .getfield 31, 177, [])]
theorem kX8_costOf_10 : tX8_costOf_10.all (am_okE cX8_costOf) = true := by decide +kernel
def tX8_costOf_11 : List am_En := [(177, .iload_n 1, 178, []), (178, .iaload, 179, []), (179, .laload, 180, []), (180, .aload_n 0, 181, []), (181, .getfield 47, 184, []), (184, .aload_n 0, 185, []), (185, .getfield 34, 188, []), (188, .iload_n 1, 189, []), (189, .iaload, 190, []), (190, .laload, 191, []), (191, .ladd, 192, [])]
theorem kX8_costOf_11 : tX8_costOf_11.all (am_okE cX8_costOf) = true := by decide +kernel
def tX8_costOf_12 : List am_En := [(192, .lconst 1, 193, []), (193, .ladd, 194, []), (194, .lreturn, 195, []), (195, .iload_n 2, 196, []), (196, .bipush 7, 198, []), (198, .if_icmp .ne 43, 201, [241]), (201, .aload_n 0, 202, []), (202, .getfield 47, 205, []), (205, .aload_n 0, 206, []), (206, .getfield 31, 209, [])]
theorem kX8_costOf_12 : tX8_costOf_12.all (am_okE cX8_costOf) = true := by decide +kernel
def tX8_costOf_13 : List am_En := [(209, .iload_n 1, 210, []), (210, .iaload, 211, []), (211, .laload, 212, []), (212, .aload_n 0, 213, []), (213, .getfield 28, 216, []), (216, .iload_n 1, 217, []), (217, .iaload, 218, []), (218, .iconst 2, 219, []), (219, .if_icmp .ne 7, 222, [226]), (222, .lconst 0, 223, []), (223, .goto 14, 226, [237])]
theorem kX8_costOf_13 : tX8_costOf_13.all (am_okE cX8_costOf) = true := by decide +kernel
def tX8_costOf_14 : List am_En := [(226, .aload_n 0, 227, []), (227, .getfield 47, 230, []), (230, .aload_n 0, 231, []), (231, .getfield 34, 234, []), (234, .iload_n 1, 235, []), (235, .iaload, 236, []), (236, .laload, 237, []), (237, .ladd, 238, []), (238, .lconst 1, 239, []), (239, .ladd, 240, [])]
theorem kX8_costOf_14 : tX8_costOf_14.all (am_okE cX8_costOf) = true := by decide +kernel
def tX8_costOf_15 : List am_En := [(240, .lreturn, 241, []), (241, .iload_n 2, 242, []), (242, .iconst 4, 243, []), (243, .if_icmp .ne 19, 246, [262]), (246, .aload_n 0, 247, []), (247, .getfield 47, 250, []), (250, .aload_n 0, 251, []), (251, .getfield 31, 254, []), (254, .iload_n 1, 255, []), (255, .iaload, 256, [])]
theorem kX8_costOf_15 : tX8_costOf_15.all (am_okE cX8_costOf) = true := by decide +kernel
def tX8_costOf_16 : List am_En := [(256, .laload, 257, []), (257, .lconst 1, 258, []), (258, .ladd, 259, []), (259, .goto 16, 262, [275]), (262, .aload_n 0, 263, []), (263, .getfield 47, 266, []), (266, .aload_n 0, 267, []), (267, .getfield 28, 270, []), (270, .iload_n 1, 271, []), (271, .iaload, 272, [])]
theorem kX8_costOf_16 : tX8_costOf_16.all (am_okE cX8_costOf) = true := by decide +kernel
def tX8_costOf_17 : List am_En := [(272, .laload, 273, []), (273, .lconst 1, 274, []), (274, .ladd, 275, []), (275, .lreturn, 276, [])]
theorem kX8_costOf_17 : tX8_costOf_17.all (am_okE cX8_costOf) = true := by decide +kernel
def tX8_costOf : List (List am_En) := [tX8_costOf_0, tX8_costOf_1, tX8_costOf_2, tX8_costOf_3, tX8_costOf_4, tX8_costOf_5, tX8_costOf_6, tX8_costOf_7, tX8_costOf_8, tX8_costOf_9, tX8_costOf_10, tX8_costOf_11, tX8_costOf_12, tX8_costOf_13, tX8_costOf_14, tX8_costOf_15, tX8_costOf_16, tX8_costOf_17]
def mX8_costOf : am_MR := (yX8_costOf, cX8_costOf, 3, (some .long), 8, 1, (0, 0), tX8_costOf)
theorem kX8_costOf : am_chk cX8_costOf tX8_costOf = true := am_chk_c kX8_costOf_0 (am_chk_c kX8_costOf_1 (am_chk_c kX8_costOf_2 (am_chk_c kX8_costOf_3 (am_chk_c kX8_costOf_4 (am_chk_c kX8_costOf_5 (am_chk_c kX8_costOf_6 (am_chk_c kX8_costOf_7 (am_chk_c kX8_costOf_8 (am_chk_c kX8_costOf_9 (am_chk_c kX8_costOf_10 (am_chk_c kX8_costOf_11 (am_chk_c kX8_costOf_12 (am_chk_c kX8_costOf_13 (am_chk_c kX8_costOf_14 (am_chk_c kX8_costOf_15 (am_chk_c kX8_costOf_16 (am_chk_c kX8_costOf_17 (rfl))))))))))))))))))
def tX8_run_0 : List am_En := [(0, .aload_n 0, 1, []), (1, .iload_n 1, 2, []), (2, .iconst 2, 3, []), (3, .invokevirtual 76, 6, []), (6, .ifCond .ne 5, 9, [11]), (9, .iconst (-1), 10, []), (10, .ireturn, 11, []), (11, .aload_n 0, 12, []), (12, .getfield 40, 15, []), (15, .iconst 4, 16, [])]
theorem kX8_run_0 : tX8_run_0.all (am_okE cX8_run) = true := by decide +kernel
def tX8_run_1 : List am_En := [(16, .iload_n 1, 17, []), (17, .imul, 18, []), (18, .iaload, 19, []), (19, .aload_n 0, 20, []), (20, .getfield 40, 23, []), (23, .iconst 4, 24, []), (24, .iload_n 1, 25, []), (25, .imul, 26, []), (26, .iconst 1, 27, []), (27, .iadd, 28, []), (28, .iaload, 29, []), (29, .iadd, 30, []), (30, .aload_n 0, 31, []), (31, .getfield 40, 34, [])]
theorem kX8_run_1 : tX8_run_1.all (am_okE cX8_run) = true := by decide +kernel
def tX8_run_2 : List am_En := [(34, .iconst 4, 35, []), (35, .iload_n 1, 36, []), (36, .imul, 37, []), (37, .iconst 2, 38, []), (38, .iadd, 39, []), (39, .iaload, 40, []), (40, .iadd, 41, []), (41, .aload_n 0, 42, []), (42, .getfield 40, 45, []), (45, .iconst 4, 46, []), (46, .iload_n 1, 47, []), (47, .imul, 48, [])]
theorem kX8_run_2 : tX8_run_2.all (am_okE cX8_run) = true := by decide +kernel
def tX8_run_3 : List am_En := [(48, .iconst 3, 49, []), (49, .iadd, 50, []), (50, .iaload, 51, []), (51, .iadd, 52, []), (52, .ifCond .le 6, 55, [58]), (55, .bipush (-2), 57, []), (57, .ireturn, 58, []), (58, .aload_n 0, 59, []), (59, .invokevirtual 111, 62, []), (62, .aload_n 0, 63, []), (63, .getfield 47, 66, [])]
theorem kX8_run_3 : tX8_run_3.all (am_okE cX8_run) = true := by decide +kernel
def tX8_run_4 : List am_En := [(66, .iload_n 1, 67, []), (67, .laload, 68, []), (68, .ldc2_w 205, 71, []), (71, .lcmp, 72, []), (72, .ifCond .le 6, 75, [78]), (75, .bipush (-3), 77, []), (77, .ireturn, 78, []), (78, .aload_n 0, 79, []), (79, .iconst 0, 80, [])]
theorem kX8_run_4 : tX8_run_4.all (am_okE cX8_run) = true := by decide +kernel
def tX8_run_5 : List am_En := [(80, .putfield 128, 83, []), (83, .aload_n 0, 84, []), (84, .iconst 0, 85, []), (85, .putfield 119, 88, []), (88, .aload_n 0, 89, []), (89, .aload_n 0, 90, []), (90, .iload_n 1, 91, []), (91, .invokevirtual 131, 94, []), (94, .putfield 207, 97, [])]
theorem kX8_run_5 : tX8_run_5.all (am_okE cX8_run) = true := by decide +kernel
def tX8_run_6 : List am_En := [(97, .aload_n 0, 98, []), (98, .aload_n 0, 99, []), (99, .getfield 25, 102, []), (102, .iload_n 1, 103, []), (103, .iaload, 104, []), (104, .putfield 210, 107, []), (107, .aload_n 0, 108, []), (108, .iconst 0, 109, []), (109, .aload_n 0, 110, []), (110, .getfield 207, 113, [])]
theorem kX8_run_6 : tX8_run_6.all (am_okE cX8_run) = true := by decide +kernel
def tX8_run_7 : List am_En := [(113, .aload_n 0, 114, []), (114, .getfield 210, 117, []), (117, .aload_n 0, 118, []), (118, .getfield 207, 121, []), (121, .invokevirtual 201, 124, []), (124, .aload_n 0, 125, []), (125, .getfield 55, 128, [])]
theorem kX8_run_7 : tX8_run_7.all (am_okE cX8_run) = true := by decide +kernel
def tX8_run_8 : List am_En := [(128, .iconst 0, 129, []), (129, .aload_n 0, 130, []), (130, .getfield 51, 133, []), (133, .iconst 0, 134, []), (134, .aload_n 0, 135, []), (135, .getfield 207, 138, []), (138, .aload_n 0, 139, []), (139, .getfield 210, 142, []), (142, .imul, 143, []), (143, .invokestatic 148, 146, [])]
theorem kX8_run_8 : tX8_run_8.all (am_okE cX8_run) = true := by decide +kernel
def tX8_run_9 : List am_En := [(146, .aload_n 0, 147, []), (147, .getfield 207, 150, []), (150, .ireturn, 151, [])]
theorem kX8_run_9 : tX8_run_9.all (am_okE cX8_run) = true := by decide +kernel
def tX8_run : List (List am_En) := [tX8_run_0, tX8_run_1, tX8_run_2, tX8_run_3, tX8_run_4, tX8_run_5, tX8_run_6, tX8_run_7, tX8_run_8, tX8_run_9]
def mX8_run : am_MR := (yX8_run, cX8_run, 2, (some .int), 8, 1, (0, 0), tX8_run)
theorem kX8_run : am_chk cX8_run tX8_run = true := am_chk_c kX8_run_0 (am_chk_c kX8_run_1 (am_chk_c kX8_run_2 (am_chk_c kX8_run_3 (am_chk_c kX8_run_4 (am_chk_c kX8_run_5 (am_chk_c kX8_run_6 (am_chk_c kX8_run_7 (am_chk_c kX8_run_8 (am_chk_c kX8_run_9 (rfl))))))))))
def tX8_bag_0 : List am_En := [(0, .aload_n 0, 1, []), (1, .getfield 19, 4, []), (4, .iload_n 1, 5, []), (5, .iaload, 6, []), (6, .tableswitch 104 11 19 #[50, 56, 62, 68, 74, 80, 86, 92, 98], 56, [110, 56, 62, 68, 74, 80, 86, 92, 98, 104])]
theorem kX8_bag_0 : tX8_bag_0.all (am_okE cX8_bag) = true := by decide +kernel
def tX8_bag_1 : List am_En := []
theorem kX8_bag_1 : tX8_bag_1.all (am_okE cX8_bag) = true := by decide +kernel
def tX8_bag_2 : List am_En := []
theorem kX8_bag_2 : tX8_bag_2.all (am_okE cX8_bag) = true := by decide +kernel
def tX8_bag_3 : List am_En := [(56, .aload_n 0, 57, []), (57, .iload_n 1, 58, []), (58, .invokevirtual 158, 61, []), (61, .ireturn, 62, []), (62, .aload_n 0, 63, []), (63, .iload_n 1, 64, [])]
theorem kX8_bag_3 : tX8_bag_3.all (am_okE cX8_bag) = true := by decide +kernel
def tX8_bag_4 : List am_En := [(64, .invokevirtual 161, 67, []), (67, .ireturn, 68, []), (68, .aload_n 0, 69, []), (69, .iload_n 1, 70, []), (70, .invokevirtual 164, 73, []), (73, .ireturn, 74, []), (74, .aload_n 0, 75, []), (75, .iload_n 1, 76, []), (76, .invokevirtual 167, 79, []), (79, .ireturn, 80, [])]
theorem kX8_bag_4 : tX8_bag_4.all (am_okE cX8_bag) = true := by decide +kernel
def tX8_bag_5 : List am_En := [(80, .aload_n 0, 81, []), (81, .iload_n 1, 82, []), (82, .invokevirtual 170, 85, []), (85, .ireturn, 86, []), (86, .aload_n 0, 87, []), (87, .iload_n 1, 88, []), (88, .invokevirtual 173, 91, []), (91, .ireturn, 92, []), (92, .aload_n 0, 93, []), (93, .iload_n 1, 94, []), (94, .invokevirtual 176, 97, [])]
theorem kX8_bag_5 : tX8_bag_5.all (am_okE cX8_bag) = true := by decide +kernel
def tX8_bag_6 : List am_En := [(97, .ireturn, 98, []), (98, .aload_n 0, 99, []), (99, .iload_n 1, 100, []), (100, .invokevirtual 179, 103, []), (103, .ireturn, 104, []), (104, .aload_n 0, 105, []), (105, .iload_n 1, 106, []), (106, .invokevirtual 182, 109, []), (109, .ireturn, 110, []), (110, .aload_n 0, 111, []), (111, .iload_n 1, 112, [])]
theorem kX8_bag_6 : tX8_bag_6.all (am_okE cX8_bag) = true := by decide +kernel
def tX8_bag_7 : List am_En := [(112, .invokevirtual 185, 115, []), (115, .ireturn, 116, [])]
theorem kX8_bag_7 : tX8_bag_7.all (am_okE cX8_bag) = true := by decide +kernel
def tX8_bag : List (List am_En) := [tX8_bag_0, tX8_bag_1, tX8_bag_2, tX8_bag_3, tX8_bag_4, tX8_bag_5, tX8_bag_6, tX8_bag_7]
def mX8_bag : am_MR := (yX8_bag, cX8_bag, 2, (some .int), 8, 1, (0, 0), tX8_bag)
theorem kX8_bag : am_chk cX8_bag tX8_bag = true := am_chk_c kX8_bag_0 (am_chk_c kX8_bag_1 (am_chk_c kX8_bag_2 (am_chk_c kX8_bag_3 (am_chk_c kX8_bag_4 (am_chk_c kX8_bag_5 (am_chk_c kX8_bag_6 (am_chk_c kX8_bag_7 (rfl))))))))
def tX8_scanned_0 : List am_En := [(0, .aload_n 0, 1, []), (1, .getfield 28, 4, []), (4, .iload_n 1, 5, []), (5, .iaload, 6, []), (6, .istore_n 2, 7, []), (7, .iconst 0, 8, []), (8, .istore_n 3, 9, []), (9, .iload_n 3, 10, []), (10, .aload_n 0, 11, []), (11, .getfield 13, 14, []), (14, .iload_n 2, 15, []), (15, .iaload, 16, [])]
theorem kX8_scanned_0 : tX8_scanned_0.all (am_okE cX8_scanned) = true := by decide +kernel
def tX8_scanned_1 : List am_En := [(16, .if_icmp .ge 64, 19, [80]), (19, .iconst 0, 20, []), (20, .istore 4, 22, []), (22, .iload 4, 24, []), (24, .aload_n 0, 25, []), (25, .getfield 7, 28, []), (28, .iload_n 2, 29, []), (29, .iaload, 30, []), (30, .if_icmp .ge 44, 33, [74])]
theorem kX8_scanned_1 : tX8_scanned_1.all (am_okE cX8_scanned) = true := by decide +kernel
def tX8_scanned_2 : List am_En := [(33, .aload_n 0, 34, []), (34, .getfield 55, 37, []), (37, .aload_n 0, 38, []), (38, .getfield 128, 41, []), (41, .aload_n 0, 42, []), (42, .getfield 16, 45, []), (45, .bipush 96, 47, []), (47, .iload_n 2, 48, [])]
theorem kX8_scanned_2 : tX8_scanned_2.all (am_okE cX8_scanned) = true := by decide +kernel
def tX8_scanned_3 : List am_En := [(48, .imul, 49, []), (49, .iconst 4, 50, []), (50, .iload_n 3, 51, []), (51, .imul, 52, []), (52, .iadd, 53, []), (53, .iload 4, 55, []), (55, .iadd, 56, []), (56, .iaload, 57, []), (57, .iastore, 58, []), (58, .aload_n 0, 59, []), (59, .dup, 60, []), (60, .getfield 128, 63, []), (63, .iconst 1, 64, [])]
theorem kX8_scanned_3 : tX8_scanned_3.all (am_okE cX8_scanned) = true := by decide +kernel
def tX8_scanned_4 : List am_En := [(64, .iadd, 65, []), (65, .putfield 128, 68, []), (68, .iinc 4 1, 71, []), (71, .goto (-49), 74, [22]), (74, .iinc 3 1, 77, []), (77, .goto (-68), 80, [9])]
theorem kX8_scanned_4 : tX8_scanned_4.all (am_okE cX8_scanned) = true := by decide +kernel
def tX8_scanned_5 : List am_En := [(80, .aload_n 0, 81, []), (81, .getfield 13, 84, []), (84, .iload_n 2, 85, []), (85, .iaload, 86, []), (86, .ireturn, 87, [])]
theorem kX8_scanned_5 : tX8_scanned_5.all (am_okE cX8_scanned) = true := by decide +kernel
def tX8_scanned : List (List am_En) := [tX8_scanned_0, tX8_scanned_1, tX8_scanned_2, tX8_scanned_3, tX8_scanned_4, tX8_scanned_5]
def mX8_scanned : am_MR := (yX8_scanned, cX8_scanned, 5, (some .int), 8, 1, (0, 0), tX8_scanned)
theorem kX8_scanned : am_chk cX8_scanned tX8_scanned = true := am_chk_c kX8_scanned_0 (am_chk_c kX8_scanned_1 (am_chk_c kX8_scanned_2 (am_chk_c kX8_scanned_3 (am_chk_c kX8_scanned_4 (am_chk_c kX8_scanned_5 (rfl))))))
def tX8_filtered_0 : List am_En := [(0, .aload_n 0, 1, []), (1, .getfield 128, 4, []), (4, .istore_n 2, 5, []), (5, .aload_n 0, 6, []), (6, .aload_n 0, 7, []), (7, .getfield 28, 10, []), (10, .iload_n 1, 11, []), (11, .iaload, 12, []), (12, .invokevirtual 131, 15, []), (15, .istore_n 3, 16, [])]
theorem kX8_filtered_0 : tX8_filtered_0.all (am_okE cX8_filtered) = true := by decide +kernel
def tX8_filtered_1 : List am_En := [(16, .aload_n 0, 17, []), (17, .getfield 25, 20, []), (20, .iload_n 1, 21, []), (21, .iaload, 22, []), (22, .istore 4, 24, []), (24, .iconst 0, 25, []), (25, .istore 5, 27, []), (27, .iconst 0, 28, []), (28, .istore 6, 30, []), (30, .iload 6, 32, [])]
theorem kX8_filtered_1 : tX8_filtered_1.all (am_okE cX8_filtered) = true := by decide +kernel
def tX8_filtered_2 : List am_En := [(32, .iload_n 3, 33, []), (33, .if_icmp .ge 71, 36, [104]), (36, .aload_n 0, 37, []), (37, .iload_n 2, 38, []), (38, .iload 4, 40, []), (40, .iload 6, 42, []), (42, .imul, 43, []), (43, .iadd, 44, []), (44, .invokevirtual 188, 47, []), (47, .aload_n 0, 48, [])]
theorem kX8_filtered_2 : tX8_filtered_2.all (am_okE cX8_filtered) = true := by decide +kernel
def tX8_filtered_3 : List am_En := [(48, .aload_n 0, 49, []), (49, .getfield 31, 52, []), (52, .iload_n 1, 53, []), (53, .iaload, 54, []), (54, .invokevirtual 125, 57, []), (57, .istore 7, 59, []), (59, .aload_n 0, 60, []), (60, .dup, 61, []), (61, .getfield 119, 64, [])]
theorem kX8_filtered_3 : tX8_filtered_3.all (am_okE cX8_filtered) = true := by decide +kernel
def tX8_filtered_4 : List am_En := [(64, .iconst 1, 65, []), (65, .isub, 66, []), (66, .putfield 119, 69, []), (69, .iload 7, 71, []), (71, .iconst 1, 72, []), (72, .if_icmp .ne 26, 75, [98]), (75, .aload_n 0, 76, []), (76, .iload_n 2, 77, []), (77, .iload 4, 79, []), (79, .iload 6, 81, [])]
theorem kX8_filtered_4 : tX8_filtered_4.all (am_okE cX8_filtered) = true := by decide +kernel
def tX8_filtered_5 : List am_En := [(81, .imul, 82, []), (82, .iadd, 83, []), (83, .iload_n 2, 84, []), (84, .iload 4, 86, []), (86, .iload 5, 88, []), (88, .imul, 89, []), (89, .iadd, 90, []), (90, .iload 4, 92, []), (92, .invokevirtual 154, 95, []), (95, .iinc 5 1, 98, [])]
theorem kX8_filtered_5 : tX8_filtered_5.all (am_okE cX8_filtered) = true := by decide +kernel
def tX8_filtered_6 : List am_En := [(98, .iinc 6 1, 101, []), (101, .goto (-71), 104, [30]), (104, .aload_n 0, 105, []), (105, .iload_n 2, 106, []), (106, .iload 4, 108, []), (108, .iload 5, 110, []), (110, .imul, 111, []), (111, .iadd, 112, [])]
theorem kX8_filtered_6 : tX8_filtered_6.all (am_okE cX8_filtered) = true := by decide +kernel
def tX8_filtered_7 : List am_En := [(112, .putfield 128, 115, []), (115, .iload 5, 117, []), (117, .ireturn, 118, [])]
theorem kX8_filtered_7 : tX8_filtered_7.all (am_okE cX8_filtered) = true := by decide +kernel
def tX8_filtered : List (List am_En) := [tX8_filtered_0, tX8_filtered_1, tX8_filtered_2, tX8_filtered_3, tX8_filtered_4, tX8_filtered_5, tX8_filtered_6, tX8_filtered_7]
def mX8_filtered : am_MR := (yX8_filtered, cX8_filtered, 8, (some .int), 8, 1, (0, 0), tX8_filtered)
theorem kX8_filtered : am_chk cX8_filtered tX8_filtered = true := am_chk_c kX8_filtered_0 (am_chk_c kX8_filtered_1 (am_chk_c kX8_filtered_2 (am_chk_c kX8_filtered_3 (am_chk_c kX8_filtered_4 (am_chk_c kX8_filtered_5 (am_chk_c kX8_filtered_6 (am_chk_c kX8_filtered_7 (rfl))))))))
def tX8_enter_0 : List am_En := [(0, .aload_n 0, 1, []), (1, .getfield 58, 4, []), (4, .aload_n 0, 5, []), (5, .getfield 119, 8, []), (8, .iload_n 1, 9, []), (9, .iastore, 10, []), (10, .aload_n 0, 11, []), (11, .dup, 12, []), (12, .getfield 119, 15, []), (15, .iconst 1, 16, [])]
theorem kX8_enter_0 : tX8_enter_0.all (am_okE cX8_enter) = true := by decide +kernel
def tX8_enter_1 : List am_En := [(16, .iadd, 17, []), (17, .putfield 119, 20, []), (20, .return_, 21, [])]
theorem kX8_enter_1 : tX8_enter_1.all (am_okE cX8_enter) = true := by decide +kernel
def tX8_enter : List (List am_En) := [tX8_enter_0, tX8_enter_1]
def mX8_enter : am_MR := (yX8_enter, cX8_enter, 2, none, 8, 1, (0, 0), tX8_enter)
theorem kX8_enter : am_chk cX8_enter tX8_enter = true := am_chk_c kX8_enter_0 (am_chk_c kX8_enter_1 (rfl))
def tX8_truth_0 : List am_En := [(0, .aload_n 0, 1, []), (1, .getfield 19, 4, []), (4, .iload_n 1, 5, []), (5, .iaload, 6, []), (6, .tableswitch 224 5 8 #[30, 62, 86, 186], 36, [230, 36, 68, 92, 192])]
theorem kX8_truth_0 : tX8_truth_0.all (am_okE cX8_truth) = true := by decide +kernel
def tX8_truth_1 : List am_En := []
theorem kX8_truth_1 : tX8_truth_1.all (am_okE cX8_truth) = true := by decide +kernel
def tX8_truth_2 : List am_En := [(36, .aload_n 0, 37, []), (37, .aload_n 0, 38, []), (38, .getfield 31, 41, []), (41, .iload_n 1, 42, []), (42, .iaload, 43, []), (43, .invokevirtual 122, 46, []), (46, .istore_n 2, 47, []), (47, .aload_n 0, 48, [])]
theorem kX8_truth_2 : tX8_truth_2.all (am_okE cX8_truth) = true := by decide +kernel
def tX8_truth_3 : List am_En := [(48, .getfield 28, 51, []), (51, .iload_n 1, 52, []), (52, .iaload, 53, []), (53, .iload_n 2, 54, []), (54, .aload_n 0, 55, []), (55, .aload_n 0, 56, []), (56, .getfield 34, 59, []), (59, .iload_n 1, 60, []), (60, .iaload, 61, []), (61, .invokevirtual 122, 64, [])]
theorem kX8_truth_3 : tX8_truth_3.all (am_okE cX8_truth) = true := by decide +kernel
def tX8_truth_4 : List am_En := [(64, .invokestatic 137, 67, []), (67, .ireturn, 68, []), (68, .aload_n 0, 69, []), (69, .aload_n 0, 70, []), (70, .getfield 28, 73, []), (73, .iload_n 1, 74, []), (74, .iaload, 75, []), (75, .invokevirtual 122, 78, []), (78, .ldc 118, 80, [])]
theorem kX8_truth_4 : tX8_truth_4.all (am_okE cX8_truth) = true := by decide +kernel
def tX8_truth_5 : List am_En := [(80, .if_icmp .ne 7, 83, [87]), (83, .iconst 1, 84, []), (84, .goto 4, 87, [88]), (87, .iconst 0, 88, []), (88, .invokestatic 114, 91, []), (91, .ireturn, 92, []), (92, .aload_n 0, 93, []), (93, .aload_n 0, 94, []), (94, .getfield 31, 97, [])]
theorem kX8_truth_5 : tX8_truth_5.all (am_okE cX8_truth) = true := by decide +kernel
def tX8_truth_6 : List am_En := [(97, .iload_n 1, 98, []), (98, .iaload, 99, []), (99, .invokevirtual 125, 102, []), (102, .istore_n 3, 103, []), (103, .aload_n 0, 104, []), (104, .getfield 28, 107, []), (107, .iload_n 1, 108, []), (108, .iaload, 109, []), (109, .iconst 2, 110, []), (110, .if_icmp .ne 16, 113, [126])]
theorem kX8_truth_6 : tX8_truth_6.all (am_okE cX8_truth) = true := by decide +kernel
def tX8_truth_7 : List am_En := [(113, .iload_n 3, 114, []), (114, .iconst 2, 115, []), (115, .if_icmp .ne 7, 118, [122]), (118, .iconst 2, 119, []), (119, .goto 6, 122, [125]), (122, .iconst 1, 123, []), (123, .iload_n 3, 124, []), (124, .isub, 125, []), (125, .ireturn, 126, []), (126, .aload_n 0, 127, []), (127, .aload_n 0, 128, [])]
theorem kX8_truth_7 : tX8_truth_7.all (am_okE cX8_truth) = true := by decide +kernel
def tX8_truth_8 : List am_En := [(128, .getfield 34, 131, []), (131, .iload_n 1, 132, []), (132, .iaload, 133, []), (133, .invokevirtual 125, 136, []), (136, .istore 4, 138, []), (138, .aload_n 0, 139, []), (139, .getfield 28, 142, []), (142, .iload_n 1, 143, []), (143, .iaload, 144, [])]
theorem kX8_truth_8 : tX8_truth_8.all (am_okE cX8_truth) = true := by decide +kernel
def tX8_truth_9 : List am_En := [(144, .ifCond .ne 7, 147, [151]), (147, .iconst 0, 148, []), (148, .goto 4, 151, [152]), (151, .iconst 1, 152, []), (152, .istore 5, 154, []), (154, .iload_n 3, 155, []), (155, .iload 5, 157, []), (157, .if_icmp .eq 10, 160, [167])]
theorem kX8_truth_9 : tX8_truth_9.all (am_okE cX8_truth) = true := by decide +kernel
def tX8_truth_10 : List am_En := [(160, .iload 4, 162, []), (162, .iload 5, 164, []), (164, .if_icmp .ne 8, 167, [172]), (167, .iload 5, 169, []), (169, .goto 22, 172, [191]), (172, .iload_n 3, 173, []), (173, .iconst 2, 174, []), (174, .if_icmp .eq 9, 177, [183])]
theorem kX8_truth_10 : tX8_truth_10.all (am_okE cX8_truth) = true := by decide +kernel
def tX8_truth_11 : List am_En := [(177, .iload 4, 179, []), (179, .iconst 2, 180, []), (180, .if_icmp .ne 7, 183, [187]), (183, .iconst 2, 184, []), (184, .goto 7, 187, [191]), (187, .iconst 1, 188, []), (188, .iload 5, 190, []), (190, .isub, 191, []), (191, .ireturn, 192, [])]
theorem kX8_truth_11 : tX8_truth_11.all (am_okE cX8_truth) = true := by decide +kernel
def tX8_truth_12 : List am_En := [(192, .aload_n 0, 193, []), (193, .getfield 128, 196, []), (196, .istore 6, 198, []), (198, .aload_n 0, 199, []), (199, .aload_n 0, 200, []), (200, .getfield 28, 203, []), (203, .iload_n 1, 204, []), (204, .iaload, 205, []), (205, .invokevirtual 131, 208, [])]
theorem kX8_truth_12 : tX8_truth_12.all (am_okE cX8_truth) = true := by decide +kernel
def tX8_truth_13 : List am_En := [(208, .istore 7, 210, []), (210, .aload_n 0, 211, []), (211, .iload 6, 213, []), (213, .putfield 128, 216, []), (216, .iload 7, 218, []), (218, .ifCond .le 7, 221, [225]), (221, .iconst 1, 222, []), (222, .goto 4, 225, [226])]
theorem kX8_truth_13 : tX8_truth_13.all (am_okE cX8_truth) = true := by decide +kernel
def tX8_truth_14 : List am_En := [(225, .iconst 0, 226, []), (226, .invokestatic 114, 229, []), (229, .ireturn, 230, []), (230, .aload_n 0, 231, []), (231, .iload_n 1, 232, []), (232, .invokevirtual 141, 235, []), (235, .ireturn, 236, [])]
theorem kX8_truth_14 : tX8_truth_14.all (am_okE cX8_truth) = true := by decide +kernel
def tX8_truth : List (List am_En) := [tX8_truth_0, tX8_truth_1, tX8_truth_2, tX8_truth_3, tX8_truth_4, tX8_truth_5, tX8_truth_6, tX8_truth_7, tX8_truth_8, tX8_truth_9, tX8_truth_10, tX8_truth_11, tX8_truth_12, tX8_truth_13, tX8_truth_14]
def mX8_truth : am_MR := (yX8_truth, cX8_truth, 8, (some .int), 8, 1, (0, 0), tX8_truth)
theorem kX8_truth : am_chk cX8_truth tX8_truth = true := am_chk_c kX8_truth_0 (am_chk_c kX8_truth_1 (am_chk_c kX8_truth_2 (am_chk_c kX8_truth_3 (am_chk_c kX8_truth_4 (am_chk_c kX8_truth_5 (am_chk_c kX8_truth_6 (am_chk_c kX8_truth_7 (am_chk_c kX8_truth_8 (am_chk_c kX8_truth_9 (am_chk_c kX8_truth_10 (am_chk_c kX8_truth_11 (am_chk_c kX8_truth_12 (am_chk_c kX8_truth_13 (am_chk_c kX8_truth_14 (rfl)))))))))))))))
def tX8_value_0 : List am_En := [(0, .aload_n 0, 1, []), (1, .getfield 19, 4, []), (4, .iload_n 1, 5, []), (5, .iaload, 6, []), (6, .tableswitch 168 0 3 #[30, 37, 68, 142], 36, [174, 36, 43, 74, 148])]
theorem kX8_value_0 : tX8_value_0.all (am_okE cX8_value) = true := by decide +kernel
def tX8_value_1 : List am_En := []
theorem kX8_value_1 : tX8_value_1.all (am_okE cX8_value) = true := by decide +kernel
def tX8_value_2 : List am_En := [(36, .aload_n 0, 37, []), (37, .getfield 28, 40, []), (40, .iload_n 1, 41, []), (41, .iaload, 42, []), (42, .ireturn, 43, []), (43, .aload_n 0, 44, []), (44, .getfield 55, 47, []), (47, .aload_n 0, 48, [])]
theorem kX8_value_2 : tX8_value_2.all (am_okE cX8_value) = true := by decide +kernel
def tX8_value_3 : List am_En := [(48, .getfield 58, 51, []), (51, .aload_n 0, 52, []), (52, .getfield 119, 55, []), (55, .iconst 1, 56, []), (56, .isub, 57, []), (57, .aload_n 0, 58, []), (58, .getfield 28, 61, []), (61, .iload_n 1, 62, []), (62, .iaload, 63, []), (63, .isub, 64, [])]
theorem kX8_value_3 : tX8_value_3.all (am_okE cX8_value) = true := by decide +kernel
def tX8_value_4 : List am_En := [(64, .iaload, 65, []), (65, .aload_n 0, 66, []), (66, .getfield 31, 69, []), (69, .iload_n 1, 70, []), (70, .iaload, 71, []), (71, .iadd, 72, []), (72, .iaload, 73, []), (73, .ireturn, 74, []), (74, .aload_n 0, 75, []), (75, .aload_n 0, 76, []), (76, .getfield 31, 79, []), (79, .iload_n 1, 80, [])]
theorem kX8_value_4 : tX8_value_4.all (am_okE cX8_value) = true := by decide +kernel
def tX8_value_5 : List am_En := [(80, .iaload, 81, []), (81, .invokevirtual 122, 84, []), (84, .istore_n 2, 85, []), (85, .aload_n 0, 86, []), (86, .aload_n 0, 87, []), (87, .getfield 34, 90, []), (90, .iload_n 1, 91, []), (91, .iaload, 92, []), (92, .invokevirtual 122, 95, []), (95, .istore_n 3, 96, [])]
theorem kX8_value_5 : tX8_value_5.all (am_okE cX8_value) = true := by decide +kernel
def tX8_value_6 : List am_En := [(96, .iload_n 2, 97, []), (97, .ldc 118, 99, []), (99, .if_icmp .eq 9, 102, [108]), (102, .iload_n 3, 103, []), (103, .ldc 118, 105, []), (105, .if_icmp .ne 8, 108, [113]), (108, .ldc 118, 110, []), (110, .goto 37, 113, [147])]
theorem kX8_value_6 : tX8_value_6.all (am_okE cX8_value) = true := by decide +kernel
def tX8_value_7 : List am_En := [(113, .aload_n 0, 114, []), (114, .getfield 28, 117, []), (117, .iload_n 1, 118, []), (118, .iaload, 119, []), (119, .ifCond .ne 9, 122, [128]), (122, .iload_n 2, 123, []), (123, .iload_n 3, 124, []), (124, .iadd, 125, []), (125, .goto 22, 128, [147])]
theorem kX8_value_7 : tX8_value_7.all (am_okE cX8_value) = true := by decide +kernel
def tX8_value_8 : List am_En := [(128, .aload_n 0, 129, []), (129, .getfield 28, 132, []), (132, .iload_n 1, 133, []), (133, .iaload, 134, []), (134, .iconst 1, 135, []), (135, .if_icmp .ne 9, 138, [144]), (138, .iload_n 2, 139, []), (139, .iload_n 3, 140, []), (140, .isub, 141, []), (141, .goto 6, 144, [147])]
theorem kX8_value_8 : tX8_value_8.all (am_okE cX8_value) = true := by decide +kernel
def tX8_value_9 : List am_En := [(144, .iload_n 2, 145, []), (145, .iload_n 3, 146, []), (146, .imul, 147, []), (147, .ireturn, 148, []), (148, .aload_n 0, 149, []), (149, .aload_n 0, 150, []), (150, .getfield 28, 153, []), (153, .iload_n 1, 154, []), (154, .iaload, 155, []), (155, .invokevirtual 125, 158, []), (158, .istore 4, 160, [])]
theorem kX8_value_9 : tX8_value_9.all (am_okE cX8_value) = true := by decide +kernel
def tX8_value_10 : List am_En := [(160, .iload 4, 162, []), (162, .iconst 2, 163, []), (163, .if_icmp .ne 8, 166, [171]), (166, .ldc 118, 168, []), (168, .goto 5, 171, [173]), (171, .iload 4, 173, []), (173, .ireturn, 174, []), (174, .aload_n 0, 175, []), (175, .getfield 128, 178, [])]
theorem kX8_value_10 : tX8_value_10.all (am_okE cX8_value) = true := by decide +kernel
def tX8_value_11 : List am_En := [(178, .istore 5, 180, []), (180, .aload_n 0, 181, []), (181, .aload_n 0, 182, []), (182, .getfield 31, 185, []), (185, .iload_n 1, 186, []), (186, .iaload, 187, []), (187, .invokevirtual 131, 190, []), (190, .istore 6, 192, [])]
theorem kX8_value_11 : tX8_value_11.all (am_okE cX8_value) = true := by decide +kernel
def tX8_value_12 : List am_En := [(192, .aload_n 0, 193, []), (193, .aload_n 0, 194, []), (194, .getfield 28, 197, []), (197, .iload_n 1, 198, []), (198, .iaload, 199, []), (199, .iload 5, 201, []), (201, .iload 6, 203, []), (203, .aload_n 0, 204, []), (204, .getfield 25, 207, []), (207, .aload_n 0, 208, [])]
theorem kX8_value_12 : tX8_value_12.all (am_okE cX8_value) = true := by decide +kernel
def tX8_value_13 : List am_En := [(208, .getfield 31, 211, []), (211, .iload_n 1, 212, []), (212, .iaload, 213, []), (213, .iaload, 214, []), (214, .aload_n 0, 215, []), (215, .getfield 34, 218, []), (218, .iload_n 1, 219, []), (219, .iaload, 220, []), (220, .iconst (-1), 221, []), (221, .iconst 0, 222, []), (222, .invokevirtual 134, 225, [])]
theorem kX8_value_13 : tX8_value_13.all (am_okE cX8_value) = true := by decide +kernel
def tX8_value_14 : List am_En := [(225, .istore 7, 227, []), (227, .aload_n 0, 228, []), (228, .iload 5, 230, []), (230, .putfield 128, 233, []), (233, .iload 7, 235, []), (235, .ireturn, 236, [])]
theorem kX8_value_14 : tX8_value_14.all (am_okE cX8_value) = true := by decide +kernel
def tX8_value : List (List am_En) := [tX8_value_0, tX8_value_1, tX8_value_2, tX8_value_3, tX8_value_4, tX8_value_5, tX8_value_6, tX8_value_7, tX8_value_8, tX8_value_9, tX8_value_10, tX8_value_11, tX8_value_12, tX8_value_13, tX8_value_14]
def mX8_value : am_MR := (yX8_value, cX8_value, 8, (some .int), 8, 1, (0, 0), tX8_value)
theorem kX8_value : am_chk cX8_value tX8_value = true := am_chk_c kX8_value_0 (am_chk_c kX8_value_1 (am_chk_c kX8_value_2 (am_chk_c kX8_value_3 (am_chk_c kX8_value_4 (am_chk_c kX8_value_5 (am_chk_c kX8_value_6 (am_chk_c kX8_value_7 (am_chk_c kX8_value_8 (am_chk_c kX8_value_9 (am_chk_c kX8_value_10 (am_chk_c kX8_value_11 (am_chk_c kX8_value_12 (am_chk_c kX8_value_13 (am_chk_c kX8_value_14 (rfl)))))))))))))))
def tX8_folded_0 : List am_En := [(0, .iconst 0, 1, []), (1, .istore 8, 3, []), (3, .iconst 0, 4, []), (4, .istore 9, 6, []), (6, .iconst 0, 7, []), (7, .istore 10, 9, []), (9, .lconst 0, 10, []), (10, .lstore 11, 12, []), (12, .iconst 0, 13, []), (13, .istore 13, 15, []), (15, .iconst 0, 16, [])]
theorem kX8_folded_0 : tX8_folded_0.all (am_okE cX8_folded) = true := by decide +kernel
def tX8_folded_1 : List am_En := [(16, .istore 14, 18, []), (18, .iconst 0, 19, []), (19, .istore 15, 21, []), (21, .iload 15, 23, []), (23, .iload_n 3, 24, []), (24, .if_icmp .ge 216, 27, [240]), (27, .iload_n 2, 28, []), (28, .iload 4, 30, []), (30, .iload 15, 32, [])]
theorem kX8_folded_1 : tX8_folded_1.all (am_okE cX8_folded) = true := by decide +kernel
def tX8_folded_2 : List am_En := [(32, .imul, 33, []), (33, .iadd, 34, []), (34, .istore 16, 36, []), (36, .iload 6, 38, []), (38, .iconst (-1), 39, []), (39, .if_icmp .eq 21, 42, [60]), (42, .aload_n 0, 43, []), (43, .iload 6, 45, []), (45, .iload 16, 47, []), (47, .iload 4, 49, [])]
theorem kX8_folded_2 : tX8_folded_2.all (am_okE cX8_folded) = true := by decide +kernel
def tX8_folded_3 : List am_En := [(49, .iload 7, 51, []), (51, .invokevirtual 144, 54, []), (54, .ifCond .ne 6, 57, [60]), (57, .goto 177, 60, [234]), (60, .iinc 8 1, 63, []), (63, .aload_n 0, 64, [])]
theorem kX8_folded_3 : tX8_folded_3.all (am_okE cX8_folded) = true := by decide +kernel
def tX8_folded_4 : List am_En := [(64, .getfield 55, 67, []), (67, .iload 16, 69, []), (69, .iload 5, 71, []), (71, .iadd, 72, []), (72, .iaload, 73, []), (73, .istore 17, 75, []), (75, .iload 17, 77, []), (77, .ldc 118, 79, []), (79, .if_icmp .ne 6, 82, [85])]
theorem kX8_folded_4 : tX8_folded_4.all (am_okE cX8_folded) = true := by decide +kernel
def tX8_folded_5 : List am_En := [(82, .goto 152, 85, [234]), (85, .iload 9, 87, []), (87, .ifCond .eq 10, 90, [97]), (90, .iload 17, 92, []), (92, .iload 13, 94, []), (94, .if_icmp .ge 8, 97, [102])]
theorem kX8_folded_5 : tX8_folded_5.all (am_okE cX8_folded) = true := by decide +kernel
def tX8_folded_6 : List am_En := [(97, .iload 17, 99, []), (99, .goto 5, 102, [104]), (102, .iload 13, 104, []), (104, .istore 13, 106, []), (106, .iload 9, 108, []), (108, .ifCond .eq 10, 111, [118]), (111, .iload 17, 113, [])]
theorem kX8_folded_6 : tX8_folded_6.all (am_okE cX8_folded) = true := by decide +kernel
def tX8_folded_7 : List am_En := [(113, .iload 14, 115, []), (115, .if_icmp .le 8, 118, [123]), (118, .iload 17, 120, []), (120, .goto 5, 123, [125]), (123, .iload 14, 125, []), (125, .istore 14, 127, []), (127, .iinc 9 1, 130, [])]
theorem kX8_folded_7 : tX8_folded_7.all (am_okE cX8_folded) = true := by decide +kernel
def tX8_folded_8 : List am_En := [(130, .lload 11, 132, []), (132, .iload 17, 134, []), (134, .i2l, 135, []), (135, .ladd, 136, []), (136, .lstore 11, 138, []), (138, .iconst 1, 139, []), (139, .istore 18, 141, []), (141, .iconst 0, 142, []), (142, .istore 19, 144, [])]
theorem kX8_folded_8 : tX8_folded_8.all (am_okE cX8_folded) = true := by decide +kernel
def tX8_folded_9 : List am_En := [(144, .iload 19, 146, []), (146, .iload 15, 148, []), (148, .if_icmp .ge 71, 151, [219]), (151, .iload 18, 153, []), (153, .ifCond .eq 66, 156, [219]), (156, .iload_n 1, 157, []), (157, .iconst 5, 158, []), (158, .if_icmp .ne 61, 161, [219])]
theorem kX8_folded_9 : tX8_folded_9.all (am_okE cX8_folded) = true := by decide +kernel
def tX8_folded_10 : List am_En := [(161, .iload_n 2, 162, []), (162, .iload 4, 164, []), (164, .iload 19, 166, []), (166, .imul, 167, []), (167, .iadd, 168, []), (168, .istore 20, 170, []), (170, .aload_n 0, 171, []), (171, .getfield 55, 174, []), (174, .iload 20, 176, [])]
theorem kX8_folded_10 : tX8_folded_10.all (am_okE cX8_folded) = true := by decide +kernel
def tX8_folded_11 : List am_En := [(176, .iload 5, 178, []), (178, .iadd, 179, []), (179, .iaload, 180, []), (180, .iload 17, 182, []), (182, .if_icmp .ne 24, 185, [206]), (185, .iload 6, 187, []), (187, .iconst (-1), 188, []), (188, .if_icmp .eq 22, 191, [210]), (191, .aload_n 0, 192, [])]
theorem kX8_folded_11 : tX8_folded_11.all (am_okE cX8_folded) = true := by decide +kernel
def tX8_folded_12 : List am_En := [(192, .iload 6, 194, []), (194, .iload 20, 196, []), (196, .iload 4, 198, []), (198, .iload 7, 200, []), (200, .invokevirtual 144, 203, []), (203, .ifCond .ne 7, 206, [210]), (206, .iconst 1, 207, []), (207, .goto 4, 210, [211])]
theorem kX8_folded_12 : tX8_folded_12.all (am_okE cX8_folded) = true := by decide +kernel
def tX8_folded_13 : List am_En := [(210, .iconst 0, 211, []), (211, .istore 18, 213, []), (213, .iinc 19 1, 216, []), (216, .goto (-72), 219, [144]), (219, .iload 10, 221, []), (221, .iload 18, 223, []), (223, .ifCond .eq 7, 226, [230])]
theorem kX8_folded_13 : tX8_folded_13.all (am_okE cX8_folded) = true := by decide +kernel
def tX8_folded_14 : List am_En := [(226, .iconst 1, 227, []), (227, .goto 4, 230, [231]), (230, .iconst 0, 231, []), (231, .iadd, 232, []), (232, .istore 10, 234, []), (234, .iinc 15 1, 237, []), (237, .goto (-216), 240, [21])]
theorem kX8_folded_14 : tX8_folded_14.all (am_okE cX8_folded) = true := by decide +kernel
def tX8_folded_15 : List am_En := [(240, .iload_n 1, 241, []), (241, .iconst 2, 242, []), (242, .if_icmp .ge 15, 245, [257]), (245, .iload_n 1, 246, []), (246, .ifCond .ne 8, 249, [254]), (249, .iload 8, 251, []), (251, .goto 5, 254, [256]), (254, .iload 9, 256, [])]
theorem kX8_folded_15 : tX8_folded_15.all (am_okE cX8_folded) = true := by decide +kernel
def tX8_folded_16 : List am_En := [(256, .ireturn, 257, []), (257, .iload_n 1, 258, []), (258, .iconst 5, 259, []), (259, .if_icmp .ne 6, 262, [265]), (262, .iload 10, 264, []), (264, .ireturn, 265, []), (265, .iload 9, 267, []), (267, .ifCond .ne 8, 270, [275]), (270, .ldc 118, 272, [])]
theorem kX8_folded_16 : tX8_folded_16.all (am_okE cX8_folded) = true := by decide +kernel
def tX8_folded_17 : List am_En := [(272, .goto 26, 275, [298]), (275, .iload_n 1, 276, []), (276, .iconst 2, 277, []), (277, .if_icmp .ne 9, 280, [286]), (280, .lload 11, 282, []), (282, .l2i, 283, []), (283, .goto 15, 286, [298]), (286, .iload_n 1, 287, []), (287, .iconst 3, 288, [])]
theorem kX8_folded_17 : tX8_folded_17.all (am_okE cX8_folded) = true := by decide +kernel
def tX8_folded_18 : List am_En := [(288, .if_icmp .ne 8, 291, [296]), (291, .iload 13, 293, []), (293, .goto 5, 296, [298]), (296, .iload 14, 298, []), (298, .ireturn, 299, [])]
theorem kX8_folded_18 : tX8_folded_18.all (am_okE cX8_folded) = true := by decide +kernel
def tX8_folded : List (List am_En) := [tX8_folded_0, tX8_folded_1, tX8_folded_2, tX8_folded_3, tX8_folded_4, tX8_folded_5, tX8_folded_6, tX8_folded_7, tX8_folded_8, tX8_folded_9, tX8_folded_10, tX8_folded_11, tX8_folded_12, tX8_folded_13, tX8_folded_14, tX8_folded_15, tX8_folded_16, tX8_folded_17, tX8_folded_18]
def mX8_folded : am_MR := (yX8_folded, cX8_folded, 21, (some .int), 8, 7, (0, 0), tX8_folded)
theorem kX8_folded : am_chk cX8_folded tX8_folded = true := am_chk_c kX8_folded_0 (am_chk_c kX8_folded_1 (am_chk_c kX8_folded_2 (am_chk_c kX8_folded_3 (am_chk_c kX8_folded_4 (am_chk_c kX8_folded_5 (am_chk_c kX8_folded_6 (am_chk_c kX8_folded_7 (am_chk_c kX8_folded_8 (am_chk_c kX8_folded_9 (am_chk_c kX8_folded_10 (am_chk_c kX8_folded_11 (am_chk_c kX8_folded_12 (am_chk_c kX8_folded_13 (am_chk_c kX8_folded_14 (am_chk_c kX8_folded_15 (am_chk_c kX8_folded_16 (am_chk_c kX8_folded_17 (am_chk_c kX8_folded_18 (rfl)))))))))))))))))))
def tX8_areAlike_0 : List am_En := [(0, .iconst 1, 1, []), (1, .istore 5, 3, []), (3, .iconst 0, 4, []), (4, .istore 6, 6, []), (6, .iload 6, 8, []), (8, .iload_n 3, 9, []), (9, .if_icmp .ge 52, 12, [61]), (12, .iload 5, 14, []), (14, .ifCond .eq 47, 17, [61])]
theorem kX8_areAlike_0 : tX8_areAlike_0.all (am_okE cX8_areAlike) = true := by decide +kernel
def tX8_areAlike_1 : List am_En := [(17, .iload 4, 19, []), (19, .iload 6, 21, []), (21, .ishr, 22, []), (22, .iconst 1, 23, []), (23, .iand, 24, []), (24, .ifCond .eq 24, 27, [48]), (27, .aload_n 0, 28, []), (28, .getfield 55, 31, []), (31, .iload_n 1, 32, [])]
theorem kX8_areAlike_1 : tX8_areAlike_1.all (am_okE cX8_areAlike) = true := by decide +kernel
def tX8_areAlike_2 : List am_En := [(32, .iload 6, 34, []), (34, .iadd, 35, []), (35, .iaload, 36, []), (36, .aload_n 0, 37, []), (37, .getfield 55, 40, []), (40, .iload_n 2, 41, []), (41, .iload 6, 43, []), (43, .iadd, 44, []), (44, .iaload, 45, []), (45, .if_icmp .ne 7, 48, [52])]
theorem kX8_areAlike_2 : tX8_areAlike_2.all (am_okE cX8_areAlike) = true := by decide +kernel
def tX8_areAlike_3 : List am_En := [(48, .iconst 1, 49, []), (49, .goto 4, 52, [53]), (52, .iconst 0, 53, []), (53, .istore 5, 55, []), (55, .iinc 6 1, 58, []), (58, .goto (-52), 61, [6]), (61, .iload 5, 63, []), (63, .ireturn, 64, [])]
theorem kX8_areAlike_3 : tX8_areAlike_3.all (am_okE cX8_areAlike) = true := by decide +kernel
def tX8_areAlike : List (List am_En) := [tX8_areAlike_0, tX8_areAlike_1, tX8_areAlike_2, tX8_areAlike_3]
def mX8_areAlike : am_MR := (yX8_areAlike, cX8_areAlike, 7, (some .boolean), 8, 4, (0, 0), tX8_areAlike)
theorem kX8_areAlike : am_chk cX8_areAlike tX8_areAlike = true := am_chk_c kX8_areAlike_0 (am_chk_c kX8_areAlike_1 (am_chk_c kX8_areAlike_2 (am_chk_c kX8_areAlike_3 (rfl))))
def tX8_compared_0 : List am_En := [(0, .iload_n 0, 1, []), (1, .iconst 4, 2, []), (2, .if_icmp .ne 17, 5, [19]), (5, .iload_n 1, 6, []), (6, .iload_n 2, 7, []), (7, .if_icmp .ne 7, 10, [14]), (10, .iconst 1, 11, []), (11, .goto 4, 14, [15]), (14, .iconst 0, 15, []), (15, .invokestatic 114, 18, [])]
theorem kX8_compared_0 : tX8_compared_0.all (am_okE cX8_compared) = true := by decide +kernel
def tX8_compared_1 : List am_En := [(18, .ireturn, 19, []), (19, .iload_n 1, 20, []), (20, .ldc 118, 22, []), (22, .if_icmp .eq 9, 25, [31]), (25, .iload_n 2, 26, []), (26, .ldc 118, 28, []), (28, .if_icmp .ne 5, 31, [33]), (31, .iconst 2, 32, [])]
theorem kX8_compared_1 : tX8_compared_1.all (am_okE cX8_compared) = true := by decide +kernel
def tX8_compared_2 : List am_En := [(32, .ireturn, 33, []), (33, .iload_n 0, 34, []), (34, .ifCond .ne 16, 37, [50]), (37, .iload_n 1, 38, []), (38, .iload_n 2, 39, []), (39, .if_icmp .ne 7, 42, [46]), (42, .iconst 1, 43, []), (43, .goto 53, 46, [96]), (46, .iconst 0, 47, []), (47, .goto 49, 50, [96])]
theorem kX8_compared_2 : tX8_compared_2.all (am_okE cX8_compared) = true := by decide +kernel
def tX8_compared_3 : List am_En := [(50, .iload_n 0, 51, []), (51, .iconst 1, 52, []), (52, .if_icmp .ne 16, 55, [68]), (55, .iload_n 1, 56, []), (56, .iload_n 2, 57, []), (57, .if_icmp .eq 7, 60, [64]), (60, .iconst 1, 61, []), (61, .goto 35, 64, [96])]
theorem kX8_compared_3 : tX8_compared_3.all (am_okE cX8_compared) = true := by decide +kernel
def tX8_compared_4 : List am_En := [(64, .iconst 0, 65, []), (65, .goto 31, 68, [96]), (68, .iload_n 0, 69, []), (69, .iconst 2, 70, []), (70, .if_icmp .ne 16, 73, [86]), (73, .iload_n 1, 74, []), (74, .iload_n 2, 75, []), (75, .if_icmp .ge 7, 78, [82]), (78, .iconst 1, 79, []), (79, .goto 17, 82, [96])]
theorem kX8_compared_4 : tX8_compared_4.all (am_okE cX8_compared) = true := by decide +kernel
def tX8_compared_5 : List am_En := [(82, .iconst 0, 83, []), (83, .goto 13, 86, [96]), (86, .iload_n 1, 87, []), (87, .iload_n 2, 88, []), (88, .if_icmp .gt 7, 91, [95]), (91, .iconst 1, 92, []), (92, .goto 4, 95, [96]), (95, .iconst 0, 96, [])]
theorem kX8_compared_5 : tX8_compared_5.all (am_okE cX8_compared) = true := by decide +kernel
def tX8_compared_6 : List am_En := [(96, .invokestatic 114, 99, []), (99, .ireturn, 100, [])]
theorem kX8_compared_6 : tX8_compared_6.all (am_okE cX8_compared) = true := by decide +kernel
def tX8_compared : List (List am_En) := [tX8_compared_0, tX8_compared_1, tX8_compared_2, tX8_compared_3, tX8_compared_4, tX8_compared_5, tX8_compared_6]
def mX8_compared : am_MR := (yX8_compared, cX8_compared, 3, (some .int), 8, 3, (0, 0), tX8_compared)
theorem kX8_compared : am_chk cX8_compared tX8_compared = true := am_chk_c kX8_compared_0 (am_chk_c kX8_compared_1 (am_chk_c kX8_compared_2 (am_chk_c kX8_compared_3 (am_chk_c kX8_compared_4 (am_chk_c kX8_compared_5 (am_chk_c kX8_compared_6 (rfl)))))))
def tX8_truthOf_0 : List am_En := [(0, .iload_n 0, 1, []), (1, .ifCond .eq 7, 4, [8]), (4, .iconst 1, 5, []), (5, .goto 4, 8, [9]), (8, .iconst 0, 9, []), (9, .ireturn, 10, [])]
theorem kX8_truthOf_0 : tX8_truthOf_0.all (am_okE cX8_truthOf) = true := by decide +kernel
def tX8_truthOf : List (List am_En) := [tX8_truthOf_0]
def mX8_truthOf : am_MR := (yX8_truthOf, cX8_truthOf, 1, (some .int), 8, 1, (0, 0), tX8_truthOf)
theorem kX8_truthOf : am_chk cX8_truthOf tX8_truthOf = true := am_chk_c kX8_truthOf_0 (rfl)
def tX8_quantified_0 : List am_En := [(0, .aload_n 0, 1, []), (1, .aload_n 0, 2, []), (2, .getfield 31, 5, []), (5, .iload_n 1, 6, []), (6, .iaload, 7, []), (7, .invokevirtual 122, 10, []), (10, .istore_n 2, 11, []), (11, .aload_n 0, 12, []), (12, .getfield 128, 15, []), (15, .istore_n 3, 16, [])]
theorem kX8_quantified_0 : tX8_quantified_0.all (am_okE cX8_quantified) = true := by decide +kernel
def tX8_quantified_1 : List am_En := [(16, .aload_n 0, 17, []), (17, .aload_n 0, 18, []), (18, .getfield 34, 21, []), (21, .iload_n 1, 22, []), (22, .iaload, 23, []), (23, .invokevirtual 131, 26, []), (26, .istore 4, 28, []), (28, .aload_n 0, 29, []), (29, .getfield 19, 32, [])]
theorem kX8_quantified_1 : tX8_quantified_1.all (am_okE cX8_quantified) = true := by decide +kernel
def tX8_quantified_2 : List am_En := [(32, .iload_n 1, 33, []), (33, .iaload, 34, []), (34, .bipush 9, 36, []), (36, .if_icmp .ne 7, 39, [43]), (39, .iconst 1, 40, []), (40, .goto 4, 43, [44]), (43, .iconst 0, 44, []), (44, .istore 5, 46, []), (46, .iconst 1, 47, []), (47, .iload 5, 49, [])]
theorem kX8_quantified_2 : tX8_quantified_2.all (am_okE cX8_quantified) = true := by decide +kernel
def tX8_quantified_3 : List am_En := [(49, .isub, 50, []), (50, .istore 6, 52, []), (52, .iconst 0, 53, []), (53, .istore 7, 55, []), (55, .iload 7, 57, []), (57, .iload 4, 59, []), (59, .if_icmp .ge 63, 62, [122]), (62, .aload_n 0, 63, []), (63, .getfield 28, 66, [])]
theorem kX8_quantified_3 : tX8_quantified_3.all (am_okE cX8_quantified) = true := by decide +kernel
def tX8_quantified_4 : List am_En := [(66, .iload_n 1, 67, []), (67, .iaload, 68, []), (68, .iload_n 2, 69, []), (69, .aload_n 0, 70, []), (70, .getfield 55, 73, []), (73, .iload_n 3, 74, []), (74, .iload 7, 76, []), (76, .iadd, 77, []), (77, .iaload, 78, []), (78, .invokestatic 137, 81, [])]
theorem kX8_quantified_4 : tX8_quantified_4.all (am_okE cX8_quantified) = true := by decide +kernel
def tX8_quantified_5 : List am_En := [(81, .istore 8, 83, []), (83, .iload 8, 85, []), (85, .iload 5, 87, []), (87, .if_icmp .eq 10, 90, [97]), (90, .iload 6, 92, []), (92, .iload 5, 94, []), (94, .if_icmp .ne 8, 97, [102])]
theorem kX8_quantified_5 : tX8_quantified_5.all (am_okE cX8_quantified) = true := by decide +kernel
def tX8_quantified_6 : List am_En := [(97, .iload 5, 99, []), (99, .goto 15, 102, [114]), (102, .iload 8, 104, []), (104, .iconst 2, 105, []), (105, .if_icmp .ne 7, 108, [112]), (108, .iconst 2, 109, []), (109, .goto 5, 112, [114])]
theorem kX8_quantified_6 : tX8_quantified_6.all (am_okE cX8_quantified) = true := by decide +kernel
def tX8_quantified_7 : List am_En := [(112, .iload 6, 114, []), (114, .istore 6, 116, []), (116, .iinc 7 1, 119, []), (119, .goto (-64), 122, [55]), (122, .aload_n 0, 123, []), (123, .iload_n 3, 124, []), (124, .putfield 128, 127, []), (127, .iload 6, 129, [])]
theorem kX8_quantified_7 : tX8_quantified_7.all (am_okE cX8_quantified) = true := by decide +kernel
def tX8_quantified_8 : List am_En := [(129, .ireturn, 130, [])]
theorem kX8_quantified_8 : tX8_quantified_8.all (am_okE cX8_quantified) = true := by decide +kernel
def tX8_quantified : List (List am_En) := [tX8_quantified_0, tX8_quantified_1, tX8_quantified_2, tX8_quantified_3, tX8_quantified_4, tX8_quantified_5, tX8_quantified_6, tX8_quantified_7, tX8_quantified_8]
def mX8_quantified : am_MR := (yX8_quantified, cX8_quantified, 9, (some .int), 8, 1, (0, 0), tX8_quantified)
theorem kX8_quantified : am_chk cX8_quantified tX8_quantified = true := am_chk_c kX8_quantified_0 (am_chk_c kX8_quantified_1 (am_chk_c kX8_quantified_2 (am_chk_c kX8_quantified_3 (am_chk_c kX8_quantified_4 (am_chk_c kX8_quantified_5 (am_chk_c kX8_quantified_6 (am_chk_c kX8_quantified_7 (am_chk_c kX8_quantified_8 (rfl)))))))))
def tX8_copy_0 : List am_En := [(0, .aload_n 0, 1, []), (1, .getfield 55, 4, []), (4, .iload_n 1, 5, []), (5, .aload_n 0, 6, []), (6, .getfield 55, 9, []), (9, .iload_n 2, 10, []), (10, .iload_n 3, 11, []), (11, .invokestatic 148, 14, []), (14, .return_, 15, [])]
theorem kX8_copy_0 : tX8_copy_0.all (am_okE cX8_copy) = true := by decide +kernel
def tX8_copy : List (List am_En) := [tX8_copy_0]
def mX8_copy : am_MR := (yX8_copy, cX8_copy, 4, none, 8, 3, (0, 0), tX8_copy)
theorem kX8_copy : am_chk cX8_copy tX8_copy = true := am_chk_c kX8_copy_0 (rfl)
def tX8_widened_0 : List am_En := [(0, .aload_n 0, 1, []), (1, .getfield 128, 4, []), (4, .istore_n 2, 5, []), (5, .aload_n 0, 6, []), (6, .aload_n 0, 7, []), (7, .getfield 28, 10, []), (10, .iload_n 1, 11, []), (11, .iaload, 12, []), (12, .invokevirtual 131, 15, []), (15, .istore_n 3, 16, [])]
theorem kX8_widened_0 : tX8_widened_0.all (am_okE cX8_widened) = true := by decide +kernel
def tX8_widened_1 : List am_En := [(16, .aload_n 0, 17, []), (17, .getfield 25, 20, []), (20, .aload_n 0, 21, []), (21, .getfield 28, 24, []), (24, .iload_n 1, 25, []), (25, .iaload, 26, []), (26, .iaload, 27, []), (27, .istore 4, 29, []), (29, .aload_n 0, 30, []), (30, .getfield 128, 33, [])]
theorem kX8_widened_1 : tX8_widened_1.all (am_okE cX8_widened) = true := by decide +kernel
def tX8_widened_2 : List am_En := [(33, .istore 5, 35, []), (35, .iconst 0, 36, []), (36, .istore 6, 38, []), (38, .iload 6, 40, []), (40, .iload_n 3, 41, []), (41, .if_icmp .ge 86, 44, [127]), (44, .aload_n 0, 45, []), (45, .iload_n 2, 46, []), (46, .iload 4, 48, [])]
theorem kX8_widened_2 : tX8_widened_2.all (am_okE cX8_widened) = true := by decide +kernel
def tX8_widened_3 : List am_En := [(48, .iload 6, 50, []), (50, .imul, 51, []), (51, .iadd, 52, []), (52, .invokevirtual 188, 55, []), (55, .aload_n 0, 56, []), (56, .aload_n 0, 57, []), (57, .getfield 31, 60, []), (60, .iload_n 1, 61, []), (61, .iaload, 62, []), (62, .invokevirtual 122, 65, [])]
theorem kX8_widened_3 : tX8_widened_3.all (am_okE cX8_widened) = true := by decide +kernel
def tX8_widened_4 : List am_En := [(65, .istore 7, 67, []), (67, .aload_n 0, 68, []), (68, .dup, 69, []), (69, .getfield 119, 72, []), (72, .iconst 1, 73, []), (73, .isub, 74, []), (74, .putfield 119, 77, []), (77, .aload_n 0, 78, []), (78, .iload_n 2, 79, []), (79, .iload 4, 81, [])]
theorem kX8_widened_4 : tX8_widened_4.all (am_okE cX8_widened) = true := by decide +kernel
def tX8_widened_5 : List am_En := [(81, .iload 6, 83, []), (83, .imul, 84, []), (84, .iadd, 85, []), (85, .aload_n 0, 86, []), (86, .getfield 128, 89, []), (89, .iload 4, 91, []), (91, .invokevirtual 154, 94, []), (94, .aload_n 0, 95, []), (95, .getfield 55, 98, [])]
theorem kX8_widened_5 : tX8_widened_5.all (am_okE cX8_widened) = true := by decide +kernel
def tX8_widened_6 : List am_En := [(98, .aload_n 0, 99, []), (99, .getfield 128, 102, []), (102, .iload 4, 104, []), (104, .iadd, 105, []), (105, .iload 7, 107, []), (107, .iastore, 108, []), (108, .aload_n 0, 109, []), (109, .dup, 110, []), (110, .getfield 128, 113, [])]
theorem kX8_widened_6 : tX8_widened_6.all (am_okE cX8_widened) = true := by decide +kernel
def tX8_widened_7 : List am_En := [(113, .iload 4, 115, []), (115, .iconst 1, 116, []), (116, .iadd, 117, []), (117, .iadd, 118, []), (118, .putfield 128, 121, []), (121, .iinc 6 1, 124, []), (124, .goto (-86), 127, [38]), (127, .aload_n 0, 128, [])]
theorem kX8_widened_7 : tX8_widened_7.all (am_okE cX8_widened) = true := by decide +kernel
def tX8_widened_8 : List am_En := [(128, .iload 5, 130, []), (130, .iload_n 2, 131, []), (131, .iload_n 3, 132, []), (132, .iload 4, 134, []), (134, .iconst 1, 135, []), (135, .iadd, 136, []), (136, .invokevirtual 192, 139, []), (139, .ireturn, 140, [])]
theorem kX8_widened_8 : tX8_widened_8.all (am_okE cX8_widened) = true := by decide +kernel
def tX8_widened : List (List am_En) := [tX8_widened_0, tX8_widened_1, tX8_widened_2, tX8_widened_3, tX8_widened_4, tX8_widened_5, tX8_widened_6, tX8_widened_7, tX8_widened_8]
def mX8_widened : am_MR := (yX8_widened, cX8_widened, 8, (some .int), 8, 1, (0, 0), tX8_widened)
theorem kX8_widened : am_chk cX8_widened tX8_widened = true := am_chk_c kX8_widened_0 (am_chk_c kX8_widened_1 (am_chk_c kX8_widened_2 (am_chk_c kX8_widened_3 (am_chk_c kX8_widened_4 (am_chk_c kX8_widened_5 (am_chk_c kX8_widened_6 (am_chk_c kX8_widened_7 (am_chk_c kX8_widened_8 (rfl)))))))))
def tX8_settle_0 : List am_En := [(0, .aload_n 0, 1, []), (1, .iload_n 1, 2, []), (2, .iload_n 2, 3, []), (3, .iload_n 3, 4, []), (4, .iload 4, 6, []), (6, .imul, 7, []), (7, .invokevirtual 154, 10, []), (10, .aload_n 0, 11, []), (11, .iload_n 2, 12, []), (12, .iload_n 3, 13, []), (13, .iload 4, 15, []), (15, .imul, 16, [])]
theorem kX8_settle_0 : tX8_settle_0.all (am_okE cX8_settle) = true := by decide +kernel
def tX8_settle_1 : List am_En := [(16, .iadd, 17, []), (17, .putfield 128, 20, []), (20, .iload_n 3, 21, []), (21, .ireturn, 22, [])]
theorem kX8_settle_1 : tX8_settle_1.all (am_okE cX8_settle) = true := by decide +kernel
def tX8_settle : List (List am_En) := [tX8_settle_0, tX8_settle_1]
def mX8_settle : am_MR := (yX8_settle, cX8_settle, 5, (some .int), 8, 4, (0, 0), tX8_settle)
theorem kX8_settle : am_chk cX8_settle tX8_settle = true := am_chk_c kX8_settle_0 (am_chk_c kX8_settle_1 (rfl))
def tX8_chosen_0 : List am_En := [(0, .aload_n 0, 1, []), (1, .getfield 128, 4, []), (4, .istore_n 2, 5, []), (5, .aload_n 0, 6, []), (6, .aload_n 0, 7, []), (7, .getfield 28, 10, []), (10, .iload_n 1, 11, []), (11, .iaload, 12, []), (12, .invokevirtual 131, 15, []), (15, .istore_n 3, 16, [])]
theorem kX8_chosen_0 : tX8_chosen_0.all (am_okE cX8_chosen) = true := by decide +kernel
def tX8_chosen_1 : List am_En := [(16, .aload_n 0, 17, []), (17, .getfield 25, 20, []), (20, .aload_n 0, 21, []), (21, .getfield 28, 24, []), (24, .iload_n 1, 25, []), (25, .iaload, 26, []), (26, .iaload, 27, []), (27, .istore 4, 29, []), (29, .aload_n 0, 30, []), (30, .getfield 128, 33, [])]
theorem kX8_chosen_1 : tX8_chosen_1.all (am_okE cX8_chosen) = true := by decide +kernel
def tX8_chosen_2 : List am_En := [(33, .istore 5, 35, []), (35, .iconst 0, 36, []), (36, .istore 6, 38, []), (38, .iload 6, 40, []), (40, .iload_n 3, 41, []), (41, .if_icmp .ge 75, 44, [116]), (44, .iconst 0, 45, []), (45, .istore 7, 47, []), (47, .iload 7, 49, [])]
theorem kX8_chosen_2 : tX8_chosen_2.all (am_okE cX8_chosen) = true := by decide +kernel
def tX8_chosen_3 : List am_En := [(49, .aload_n 0, 50, []), (50, .getfield 25, 53, []), (53, .iload_n 1, 54, []), (54, .iaload, 55, []), (55, .if_icmp .ge 55, 58, [110]), (58, .aload_n 0, 59, []), (59, .getfield 55, 62, []), (62, .aload_n 0, 63, []), (63, .getfield 128, 66, [])]
theorem kX8_chosen_3 : tX8_chosen_3.all (am_okE cX8_chosen) = true := by decide +kernel
def tX8_chosen_4 : List am_En := [(66, .aload_n 0, 67, []), (67, .getfield 55, 70, []), (70, .iload_n 2, 71, []), (71, .iload 4, 73, []), (73, .iload 6, 75, []), (75, .imul, 76, []), (76, .iadd, 77, []), (77, .aload_n 0, 78, []), (78, .getfield 31, 81, [])]
theorem kX8_chosen_4 : tX8_chosen_4.all (am_okE cX8_chosen) = true := by decide +kernel
def tX8_chosen_5 : List am_En := [(81, .iload_n 1, 82, []), (82, .iaload, 83, []), (83, .iconst 4, 84, []), (84, .iload 7, 86, []), (86, .imul, 87, []), (87, .ishr, 88, []), (88, .bipush 15, 90, []), (90, .iand, 91, []), (91, .iadd, 92, []), (92, .iaload, 93, []), (93, .iastore, 94, []), (94, .aload_n 0, 95, []), (95, .dup, 96, [])]
theorem kX8_chosen_5 : tX8_chosen_5.all (am_okE cX8_chosen) = true := by decide +kernel
def tX8_chosen_6 : List am_En := [(96, .getfield 128, 99, []), (99, .iconst 1, 100, []), (100, .iadd, 101, []), (101, .putfield 128, 104, []), (104, .iinc 7 1, 107, []), (107, .goto (-60), 110, [47]), (110, .iinc 6 1, 113, [])]
theorem kX8_chosen_6 : tX8_chosen_6.all (am_okE cX8_chosen) = true := by decide +kernel
def tX8_chosen_7 : List am_En := [(113, .goto (-75), 116, [38]), (116, .aload_n 0, 117, []), (117, .iload 5, 119, []), (119, .iload_n 2, 120, []), (120, .iload_n 3, 121, []), (121, .aload_n 0, 122, []), (122, .getfield 25, 125, []), (125, .iload_n 1, 126, []), (126, .iaload, 127, []), (127, .invokevirtual 192, 130, [])]
theorem kX8_chosen_7 : tX8_chosen_7.all (am_okE cX8_chosen) = true := by decide +kernel
def tX8_chosen_8 : List am_En := [(130, .ireturn, 131, [])]
theorem kX8_chosen_8 : tX8_chosen_8.all (am_okE cX8_chosen) = true := by decide +kernel
def tX8_chosen : List (List am_En) := [tX8_chosen_0, tX8_chosen_1, tX8_chosen_2, tX8_chosen_3, tX8_chosen_4, tX8_chosen_5, tX8_chosen_6, tX8_chosen_7, tX8_chosen_8]
def mX8_chosen : am_MR := (yX8_chosen, cX8_chosen, 8, (some .int), 8, 1, (0, 0), tX8_chosen)
theorem kX8_chosen : am_chk cX8_chosen tX8_chosen = true := am_chk_c kX8_chosen_0 (am_chk_c kX8_chosen_1 (am_chk_c kX8_chosen_2 (am_chk_c kX8_chosen_3 (am_chk_c kX8_chosen_4 (am_chk_c kX8_chosen_5 (am_chk_c kX8_chosen_6 (am_chk_c kX8_chosen_7 (am_chk_c kX8_chosen_8 (rfl)))))))))
def tX8_paired_0 : List am_En := [(0, .aload_n 0, 1, []), (1, .getfield 128, 4, []), (4, .istore_n 2, 5, []), (5, .aload_n 0, 6, []), (6, .aload_n 0, 7, []), (7, .getfield 28, 10, []), (10, .iload_n 1, 11, []), (11, .iaload, 12, []), (12, .invokevirtual 131, 15, []), (15, .istore_n 3, 16, [])]
theorem kX8_paired_0 : tX8_paired_0.all (am_okE cX8_paired) = true := by decide +kernel
def tX8_paired_1 : List am_En := [(16, .aload_n 0, 17, []), (17, .getfield 128, 20, []), (20, .istore 4, 22, []), (22, .aload_n 0, 23, []), (23, .aload_n 0, 24, []), (24, .getfield 31, 27, []), (27, .iload_n 1, 28, []), (28, .iaload, 29, []), (29, .invokevirtual 131, 32, [])]
theorem kX8_paired_1 : tX8_paired_1.all (am_okE cX8_paired) = true := by decide +kernel
def tX8_paired_2 : List am_En := [(32, .istore 5, 34, []), (34, .aload_n 0, 35, []), (35, .getfield 128, 38, []), (38, .istore 6, 40, []), (40, .iconst 0, 41, []), (41, .istore 7, 43, []), (43, .iload 7, 45, []), (45, .iload_n 3, 46, []), (46, .if_icmp .ge 123, 49, [169])]
theorem kX8_paired_2 : tX8_paired_2.all (am_okE cX8_paired) = true := by decide +kernel
def tX8_paired_3 : List am_En := [(49, .iconst 0, 50, []), (50, .istore 8, 52, []), (52, .iload 8, 54, []), (54, .iload 5, 56, []), (56, .if_icmp .ge 107, 59, [163]), (59, .aload_n 0, 60, []), (60, .iload_n 2, 61, []), (61, .aload_n 0, 62, []), (62, .getfield 25, 65, [])]
theorem kX8_paired_3 : tX8_paired_3.all (am_okE cX8_paired) = true := by decide +kernel
def tX8_paired_4 : List am_En := [(65, .aload_n 0, 66, []), (66, .getfield 28, 69, []), (69, .iload_n 1, 70, []), (70, .iaload, 71, []), (71, .iaload, 72, []), (72, .iload 7, 74, []), (74, .imul, 75, []), (75, .iadd, 76, []), (76, .aload_n 0, 77, []), (77, .getfield 128, 80, [])]
theorem kX8_paired_4 : tX8_paired_4.all (am_okE cX8_paired) = true := by decide +kernel
def tX8_paired_5 : List am_En := [(80, .aload_n 0, 81, []), (81, .getfield 25, 84, []), (84, .aload_n 0, 85, []), (85, .getfield 28, 88, []), (88, .iload_n 1, 89, []), (89, .iaload, 90, []), (90, .iaload, 91, []), (91, .invokevirtual 154, 94, []), (94, .aload_n 0, 95, []), (95, .iload 4, 97, [])]
theorem kX8_paired_5 : tX8_paired_5.all (am_okE cX8_paired) = true := by decide +kernel
def tX8_paired_6 : List am_En := [(97, .aload_n 0, 98, []), (98, .getfield 25, 101, []), (101, .aload_n 0, 102, []), (102, .getfield 31, 105, []), (105, .iload_n 1, 106, []), (106, .iaload, 107, []), (107, .iaload, 108, []), (108, .iload 8, 110, []), (110, .imul, 111, []), (111, .iadd, 112, [])]
theorem kX8_paired_6 : tX8_paired_6.all (am_okE cX8_paired) = true := by decide +kernel
def tX8_paired_7 : List am_En := [(112, .aload_n 0, 113, []), (113, .getfield 128, 116, []), (116, .aload_n 0, 117, []), (117, .getfield 25, 120, []), (120, .aload_n 0, 121, []), (121, .getfield 28, 124, []), (124, .iload_n 1, 125, []), (125, .iaload, 126, []), (126, .iaload, 127, []), (127, .iadd, 128, [])]
theorem kX8_paired_7 : tX8_paired_7.all (am_okE cX8_paired) = true := by decide +kernel
def tX8_paired_8 : List am_En := [(128, .aload_n 0, 129, []), (129, .getfield 25, 132, []), (132, .aload_n 0, 133, []), (133, .getfield 31, 136, []), (136, .iload_n 1, 137, []), (137, .iaload, 138, []), (138, .iaload, 139, []), (139, .invokevirtual 154, 142, []), (142, .aload_n 0, 143, []), (143, .dup, 144, [])]
theorem kX8_paired_8 : tX8_paired_8.all (am_okE cX8_paired) = true := by decide +kernel
def tX8_paired_9 : List am_En := [(144, .getfield 128, 147, []), (147, .aload_n 0, 148, []), (148, .getfield 25, 151, []), (151, .iload_n 1, 152, []), (152, .iaload, 153, []), (153, .iadd, 154, []), (154, .putfield 128, 157, []), (157, .iinc 8 1, 160, [])]
theorem kX8_paired_9 : tX8_paired_9.all (am_okE cX8_paired) = true := by decide +kernel
def tX8_paired_10 : List am_En := [(160, .goto (-108), 163, [52]), (163, .iinc 7 1, 166, []), (166, .goto (-123), 169, [43]), (169, .aload_n 0, 170, []), (170, .iload 6, 172, []), (172, .iload_n 2, 173, []), (173, .iload_n 3, 174, []), (174, .iload 5, 176, [])]
theorem kX8_paired_10 : tX8_paired_10.all (am_okE cX8_paired) = true := by decide +kernel
def tX8_paired_11 : List am_En := [(176, .imul, 177, []), (177, .aload_n 0, 178, []), (178, .getfield 25, 181, []), (181, .iload_n 1, 182, []), (182, .iaload, 183, []), (183, .invokevirtual 192, 186, []), (186, .ireturn, 187, [])]
theorem kX8_paired_11 : tX8_paired_11.all (am_okE cX8_paired) = true := by decide +kernel
def tX8_paired : List (List am_En) := [tX8_paired_0, tX8_paired_1, tX8_paired_2, tX8_paired_3, tX8_paired_4, tX8_paired_5, tX8_paired_6, tX8_paired_7, tX8_paired_8, tX8_paired_9, tX8_paired_10, tX8_paired_11]
def mX8_paired : am_MR := (yX8_paired, cX8_paired, 9, (some .int), 8, 1, (0, 0), tX8_paired)
theorem kX8_paired : am_chk cX8_paired tX8_paired = true := am_chk_c kX8_paired_0 (am_chk_c kX8_paired_1 (am_chk_c kX8_paired_2 (am_chk_c kX8_paired_3 (am_chk_c kX8_paired_4 (am_chk_c kX8_paired_5 (am_chk_c kX8_paired_6 (am_chk_c kX8_paired_7 (am_chk_c kX8_paired_8 (am_chk_c kX8_paired_9 (am_chk_c kX8_paired_10 (am_chk_c kX8_paired_11 (rfl))))))))))))
def tX8_applied_0 : List am_En := [(0, .aload_n 0, 1, []), (1, .getfield 128, 4, []), (4, .istore_n 2, 5, []), (5, .aload_n 0, 6, []), (6, .aload_n 0, 7, []), (7, .getfield 28, 10, []), (10, .iload_n 1, 11, []), (11, .iaload, 12, []), (12, .invokevirtual 131, 15, []), (15, .istore_n 3, 16, [])]
theorem kX8_applied_0 : tX8_applied_0.all (am_okE cX8_applied) = true := by decide +kernel
def tX8_applied_1 : List am_En := [(16, .aload_n 0, 17, []), (17, .getfield 25, 20, []), (20, .aload_n 0, 21, []), (21, .getfield 28, 24, []), (24, .iload_n 1, 25, []), (25, .iaload, 26, []), (26, .iaload, 27, []), (27, .istore 4, 29, []), (29, .aload_n 0, 30, []), (30, .getfield 25, 33, [])]
theorem kX8_applied_1 : tX8_applied_1.all (am_okE cX8_applied) = true := by decide +kernel
def tX8_applied_2 : List am_En := [(33, .aload_n 0, 34, []), (34, .getfield 31, 37, []), (37, .iload_n 1, 38, []), (38, .iaload, 39, []), (39, .iaload, 40, []), (40, .istore 5, 42, []), (42, .aload_n 0, 43, []), (43, .getfield 128, 46, []), (46, .istore 6, 48, [])]
theorem kX8_applied_2 : tX8_applied_2.all (am_okE cX8_applied) = true := by decide +kernel
def tX8_applied_3 : List am_En := [(48, .iconst 0, 49, []), (49, .istore 7, 51, []), (51, .iconst 0, 52, []), (52, .istore 8, 54, []), (54, .iload 8, 56, []), (56, .iload_n 3, 57, []), (57, .if_icmp .ge 277, 60, [334]), (60, .aload_n 0, 61, []), (61, .getfield 128, 64, [])]
theorem kX8_applied_3 : tX8_applied_3.all (am_okE cX8_applied) = true := by decide +kernel
def tX8_applied_4 : List am_En := [(64, .istore 9, 66, []), (66, .aload_n 0, 67, []), (67, .iload_n 2, 68, []), (68, .iload 4, 70, []), (70, .iload 8, 72, []), (72, .imul, 73, []), (73, .iadd, 74, []), (74, .invokevirtual 188, 77, []), (77, .aload_n 0, 78, []), (78, .aload_n 0, 79, []), (79, .getfield 31, 82, [])]
theorem kX8_applied_4 : tX8_applied_4.all (am_okE cX8_applied) = true := by decide +kernel
def tX8_applied_5 : List am_En := [(82, .iload_n 1, 83, []), (83, .iaload, 84, []), (84, .invokevirtual 131, 87, []), (87, .istore 10, 89, []), (89, .aload_n 0, 90, []), (90, .dup, 91, []), (91, .getfield 119, 94, []), (94, .iconst 1, 95, []), (95, .isub, 96, [])]
theorem kX8_applied_5 : tX8_applied_5.all (am_okE cX8_applied) = true := by decide +kernel
def tX8_applied_6 : List am_En := [(96, .putfield 119, 99, []), (99, .aload_n 0, 100, []), (100, .getfield 34, 103, []), (103, .iload_n 1, 104, []), (104, .iaload, 105, []), (105, .iconst 1, 106, []), (106, .if_icmp .le 67, 109, [173]), (109, .aload_n 0, 110, []), (110, .iload 9, 112, [])]
theorem kX8_applied_6 : tX8_applied_6.all (am_okE cX8_applied) = true := by decide +kernel
def tX8_applied_7 : List am_En := [(112, .putfield 128, 115, []), (115, .iload 10, 117, []), (117, .ifCond .le 7, 120, [124]), (120, .iconst 1, 121, []), (121, .goto 4, 124, [125]), (124, .iconst 0, 125, []), (125, .aload_n 0, 126, []), (126, .getfield 34, 129, [])]
theorem kX8_applied_7 : tX8_applied_7.all (am_okE cX8_applied) = true := by decide +kernel
def tX8_applied_8 : List am_En := [(129, .iload_n 1, 130, []), (130, .iaload, 131, []), (131, .iconst 2, 132, []), (132, .if_icmp .ne 7, 135, [139]), (135, .iconst 1, 136, []), (136, .goto 4, 139, [140]), (139, .iconst 0, 140, []), (140, .if_icmp .ne 188, 143, [328]), (143, .aload_n 0, 144, [])]
theorem kX8_applied_8 : tX8_applied_8.all (am_okE cX8_applied) = true := by decide +kernel
def tX8_applied_9 : List am_En := [(144, .iload_n 2, 145, []), (145, .iload 4, 147, []), (147, .iload 8, 149, []), (149, .imul, 150, []), (150, .iadd, 151, []), (151, .iload 9, 153, []), (153, .iload 4, 155, []), (155, .invokevirtual 154, 158, []), (158, .aload_n 0, 159, []), (159, .iload 9, 161, [])]
theorem kX8_applied_9 : tX8_applied_9.all (am_okE cX8_applied) = true := by decide +kernel
def tX8_applied_10 : List am_En := [(161, .iload 4, 163, []), (163, .iadd, 164, []), (164, .putfield 128, 167, []), (167, .iinc 7 1, 170, []), (170, .goto 158, 173, [328]), (173, .iload 10, 175, []), (175, .iconst 1, 176, [])]
theorem kX8_applied_10 : tX8_applied_10.all (am_okE cX8_applied) = true := by decide +kernel
def tX8_applied_11 : List am_En := [(176, .isub, 177, []), (177, .istore 11, 179, []), (179, .iload 11, 181, []), (181, .ifCond .lt 61, 184, [242]), (184, .aload_n 0, 185, []), (185, .iload 9, 187, []), (187, .iload 5, 189, []), (189, .iload 11, 191, []), (191, .imul, 192, [])]
theorem kX8_applied_11 : tX8_applied_11.all (am_okE cX8_applied) = true := by decide +kernel
def tX8_applied_12 : List am_En := [(192, .iadd, 193, []), (193, .iload 9, 195, []), (195, .iload 4, 197, []), (197, .iload 5, 199, []), (199, .iadd, 200, []), (200, .iload 11, 202, []), (202, .imul, 203, []), (203, .iadd, 204, []), (204, .iload 4, 206, []), (206, .iadd, 207, []), (207, .iload 5, 209, [])]
theorem kX8_applied_12 : tX8_applied_12.all (am_okE cX8_applied) = true := by decide +kernel
def tX8_applied_13 : List am_En := [(209, .invokevirtual 154, 212, []), (212, .aload_n 0, 213, []), (213, .iload_n 2, 214, []), (214, .iload 4, 216, []), (216, .iload 8, 218, []), (218, .imul, 219, []), (219, .iadd, 220, []), (220, .iload 9, 222, []), (222, .iload 4, 224, [])]
theorem kX8_applied_13 : tX8_applied_13.all (am_okE cX8_applied) = true := by decide +kernel
def tX8_applied_14 : List am_En := [(224, .iload 5, 226, []), (226, .iadd, 227, []), (227, .iload 11, 229, []), (229, .imul, 230, []), (230, .iadd, 231, []), (231, .iload 4, 233, []), (233, .invokevirtual 154, 236, []), (236, .iinc 11 (-1), 239, []), (239, .goto (-60), 242, [179])]
theorem kX8_applied_14 : tX8_applied_14.all (am_okE cX8_applied) = true := by decide +kernel
def tX8_applied_15 : List am_En := [(242, .iload 10, 244, []), (244, .ifCond .ne 62, 247, [306]), (247, .aload_n 0, 248, []), (248, .getfield 34, 251, []), (251, .iload_n 1, 252, []), (252, .iaload, 253, []), (253, .iconst 1, 254, []), (254, .if_icmp .ne 52, 257, [306])]
theorem kX8_applied_15 : tX8_applied_15.all (am_okE cX8_applied) = true := by decide +kernel
def tX8_applied_16 : List am_En := [(257, .aload_n 0, 258, []), (258, .iload_n 2, 259, []), (259, .iload 4, 261, []), (261, .iload 8, 263, []), (263, .imul, 264, []), (264, .iadd, 265, []), (265, .iload 9, 267, []), (267, .iload 4, 269, []), (269, .invokevirtual 154, 272, [])]
theorem kX8_applied_16 : tX8_applied_16.all (am_okE cX8_applied) = true := by decide +kernel
def tX8_applied_17 : List am_En := [(272, .iconst 0, 273, []), (273, .istore 11, 275, []), (275, .iload 11, 277, []), (277, .iload 5, 279, []), (279, .if_icmp .ge 24, 282, [303]), (282, .aload_n 0, 283, []), (283, .getfield 55, 286, []), (286, .iload 9, 288, [])]
theorem kX8_applied_17 : tX8_applied_17.all (am_okE cX8_applied) = true := by decide +kernel
def tX8_applied_18 : List am_En := [(288, .iload 4, 290, []), (290, .iadd, 291, []), (291, .iload 11, 293, []), (293, .iadd, 294, []), (294, .ldc 118, 296, []), (296, .iastore, 297, []), (297, .iinc 11 1, 300, []), (300, .goto (-25), 303, [275]), (303, .iconst 1, 304, [])]
theorem kX8_applied_18 : tX8_applied_18.all (am_okE cX8_applied) = true := by decide +kernel
def tX8_applied_19 : List am_En := [(304, .istore 10, 306, []), (306, .aload_n 0, 307, []), (307, .iload 9, 309, []), (309, .iload 4, 311, []), (311, .iload 5, 313, []), (313, .iadd, 314, []), (314, .iload 10, 316, []), (316, .imul, 317, []), (317, .iadd, 318, []), (318, .putfield 128, 321, [])]
theorem kX8_applied_19 : tX8_applied_19.all (am_okE cX8_applied) = true := by decide +kernel
def tX8_applied_20 : List am_En := [(321, .iload 7, 323, []), (323, .iload 10, 325, []), (325, .iadd, 326, []), (326, .istore 7, 328, []), (328, .iinc 8 1, 331, []), (331, .goto (-277), 334, [54]), (334, .aload_n 0, 335, []), (335, .iload 6, 337, [])]
theorem kX8_applied_20 : tX8_applied_20.all (am_okE cX8_applied) = true := by decide +kernel
def tX8_applied_21 : List am_En := [(337, .iload_n 2, 338, []), (338, .iload 7, 340, []), (340, .aload_n 0, 341, []), (341, .getfield 25, 344, []), (344, .iload_n 1, 345, []), (345, .iaload, 346, []), (346, .invokevirtual 192, 349, []), (349, .ireturn, 350, [])]
theorem kX8_applied_21 : tX8_applied_21.all (am_okE cX8_applied) = true := by decide +kernel
def tX8_applied : List (List am_En) := [tX8_applied_0, tX8_applied_1, tX8_applied_2, tX8_applied_3, tX8_applied_4, tX8_applied_5, tX8_applied_6, tX8_applied_7, tX8_applied_8, tX8_applied_9, tX8_applied_10, tX8_applied_11, tX8_applied_12, tX8_applied_13, tX8_applied_14, tX8_applied_15, tX8_applied_16, tX8_applied_17, tX8_applied_18, tX8_applied_19, tX8_applied_20, tX8_applied_21]
def mX8_applied : am_MR := (yX8_applied, cX8_applied, 12, (some .int), 8, 1, (0, 0), tX8_applied)
theorem kX8_applied : am_chk cX8_applied tX8_applied = true := am_chk_c kX8_applied_0 (am_chk_c kX8_applied_1 (am_chk_c kX8_applied_2 (am_chk_c kX8_applied_3 (am_chk_c kX8_applied_4 (am_chk_c kX8_applied_5 (am_chk_c kX8_applied_6 (am_chk_c kX8_applied_7 (am_chk_c kX8_applied_8 (am_chk_c kX8_applied_9 (am_chk_c kX8_applied_10 (am_chk_c kX8_applied_11 (am_chk_c kX8_applied_12 (am_chk_c kX8_applied_13 (am_chk_c kX8_applied_14 (am_chk_c kX8_applied_15 (am_chk_c kX8_applied_16 (am_chk_c kX8_applied_17 (am_chk_c kX8_applied_18 (am_chk_c kX8_applied_19 (am_chk_c kX8_applied_20 (am_chk_c kX8_applied_21 (rfl))))))))))))))))))))))
def tX8_bothOf_0 : List am_En := [(0, .aload_n 0, 1, []), (1, .getfield 25, 4, []), (4, .iload_n 1, 5, []), (5, .iaload, 6, []), (6, .istore_n 2, 7, []), (7, .aload_n 0, 8, []), (8, .getfield 128, 11, []), (11, .istore_n 3, 12, []), (12, .aload_n 0, 13, []), (13, .aload_n 0, 14, []), (14, .getfield 28, 17, [])]
theorem kX8_bothOf_0 : tX8_bothOf_0.all (am_okE cX8_bothOf) = true := by decide +kernel
def tX8_bothOf_1 : List am_En := [(17, .iload_n 1, 18, []), (18, .iaload, 19, []), (19, .invokevirtual 131, 22, []), (22, .istore 4, 24, []), (24, .aload_n 0, 25, []), (25, .getfield 128, 28, []), (28, .istore 5, 30, []), (30, .aload_n 0, 31, []), (31, .aload_n 0, 32, [])]
theorem kX8_bothOf_1 : tX8_bothOf_1.all (am_okE cX8_bothOf) = true := by decide +kernel
def tX8_bothOf_2 : List am_En := [(32, .getfield 31, 35, []), (35, .iload_n 1, 36, []), (36, .iaload, 37, []), (37, .invokevirtual 131, 40, []), (40, .istore 6, 42, []), (42, .aload_n 0, 43, []), (43, .getfield 34, 46, []), (46, .iload_n 1, 47, []), (47, .iaload, 48, [])]
theorem kX8_bothOf_2 : tX8_bothOf_2.all (am_okE cX8_bothOf) = true := by decide +kernel
def tX8_bothOf_3 : List am_En := [(48, .ifCond .ne 9, 51, [57]), (51, .iload 4, 53, []), (53, .iload 6, 55, []), (55, .iadd, 56, []), (56, .ireturn, 57, []), (57, .iconst 0, 58, []), (58, .istore 7, 60, []), (60, .iconst 0, 61, []), (61, .istore 8, 63, []), (63, .iload 8, 65, [])]
theorem kX8_bothOf_3 : tX8_bothOf_3.all (am_okE cX8_bothOf) = true := by decide +kernel
def tX8_bothOf_4 : List am_En := [(65, .iload 6, 67, []), (67, .if_icmp .ge 77, 70, [144]), (70, .iload 7, 72, []), (72, .istore 9, 74, []), (74, .iload 9, 76, []), (76, .iload 4, 78, []), (78, .if_icmp .ge 33, 81, [111])]
theorem kX8_bothOf_4 : tX8_bothOf_4.all (am_okE cX8_bothOf) = true := by decide +kernel
def tX8_bothOf_5 : List am_En := [(81, .aload_n 0, 82, []), (82, .iload_n 3, 83, []), (83, .iload_n 2, 84, []), (84, .iload 9, 86, []), (86, .imul, 87, []), (87, .iadd, 88, []), (88, .iload 5, 90, []), (90, .iload_n 2, 91, []), (91, .iload 8, 93, []), (93, .imul, 94, []), (94, .iadd, 95, []), (95, .iload_n 2, 96, [])]
theorem kX8_bothOf_5 : tX8_bothOf_5.all (am_okE cX8_bothOf) = true := by decide +kernel
def tX8_bothOf_6 : List am_En := [(96, .sipush 255, 99, []), (99, .invokevirtual 144, 102, []), (102, .ifCond .ne 9, 105, [111]), (105, .iinc 9 1, 108, []), (108, .goto (-34), 111, [74]), (111, .iload 9, 113, [])]
theorem kX8_bothOf_6 : tX8_bothOf_6.all (am_okE cX8_bothOf) = true := by decide +kernel
def tX8_bothOf_7 : List am_En := [(113, .iload 4, 115, []), (115, .if_icmp .ge 23, 118, [138]), (118, .aload_n 0, 119, []), (119, .iload_n 3, 120, []), (120, .iload_n 2, 121, []), (121, .iload 9, 123, []), (123, .imul, 124, []), (124, .iadd, 125, []), (125, .iload_n 3, 126, []), (126, .iload_n 2, 127, []), (127, .iload 7, 129, [])]
theorem kX8_bothOf_7 : tX8_bothOf_7.all (am_okE cX8_bothOf) = true := by decide +kernel
def tX8_bothOf_8 : List am_En := [(129, .imul, 130, []), (130, .iadd, 131, []), (131, .iload_n 2, 132, []), (132, .invokevirtual 195, 135, []), (135, .iinc 7 1, 138, []), (138, .iinc 8 1, 141, []), (141, .goto (-78), 144, [63])]
theorem kX8_bothOf_8 : tX8_bothOf_8.all (am_okE cX8_bothOf) = true := by decide +kernel
def tX8_bothOf_9 : List am_En := [(144, .aload_n 0, 145, []), (145, .getfield 34, 148, []), (148, .iload_n 1, 149, []), (149, .iaload, 150, []), (150, .iconst 2, 151, []), (151, .if_icmp .ne 15, 154, [166]), (154, .aload_n 0, 155, []), (155, .iload_n 3, 156, []), (156, .iload_n 3, 157, []), (157, .iload 7, 159, []), (159, .iload_n 2, 160, [])]
theorem kX8_bothOf_9 : tX8_bothOf_9.all (am_okE cX8_bothOf) = true := by decide +kernel
def tX8_bothOf_10 : List am_En := [(160, .invokevirtual 192, 163, []), (163, .goto 20, 166, [183]), (166, .aload_n 0, 167, []), (167, .iload_n 3, 168, []), (168, .iload_n 2, 169, []), (169, .iload 7, 171, []), (171, .imul, 172, []), (172, .iadd, 173, []), (173, .iload_n 3, 174, []), (174, .iload 4, 176, [])]
theorem kX8_bothOf_10 : tX8_bothOf_10.all (am_okE cX8_bothOf) = true := by decide +kernel
def tX8_bothOf_11 : List am_En := [(176, .iload 7, 178, []), (178, .isub, 179, []), (179, .iload_n 2, 180, []), (180, .invokevirtual 192, 183, []), (183, .ireturn, 184, [])]
theorem kX8_bothOf_11 : tX8_bothOf_11.all (am_okE cX8_bothOf) = true := by decide +kernel
def tX8_bothOf : List (List am_En) := [tX8_bothOf_0, tX8_bothOf_1, tX8_bothOf_2, tX8_bothOf_3, tX8_bothOf_4, tX8_bothOf_5, tX8_bothOf_6, tX8_bothOf_7, tX8_bothOf_8, tX8_bothOf_9, tX8_bothOf_10, tX8_bothOf_11]
def mX8_bothOf : am_MR := (yX8_bothOf, cX8_bothOf, 10, (some .int), 8, 1, (0, 0), tX8_bothOf)
theorem kX8_bothOf : am_chk cX8_bothOf tX8_bothOf = true := am_chk_c kX8_bothOf_0 (am_chk_c kX8_bothOf_1 (am_chk_c kX8_bothOf_2 (am_chk_c kX8_bothOf_3 (am_chk_c kX8_bothOf_4 (am_chk_c kX8_bothOf_5 (am_chk_c kX8_bothOf_6 (am_chk_c kX8_bothOf_7 (am_chk_c kX8_bothOf_8 (am_chk_c kX8_bothOf_9 (am_chk_c kX8_bothOf_10 (am_chk_c kX8_bothOf_11 (rfl))))))))))))
def tX8_exchange_0 : List am_En := [(0, .iconst 0, 1, []), (1, .istore 4, 3, []), (3, .iload 4, 5, []), (5, .iload_n 3, 6, []), (6, .if_icmp .ge 49, 9, [55]), (9, .aload_n 0, 10, []), (10, .getfield 55, 13, []), (13, .iload_n 1, 14, []), (14, .iload 4, 16, [])]
theorem kX8_exchange_0 : tX8_exchange_0.all (am_okE cX8_exchange) = true := by decide +kernel
def tX8_exchange_1 : List am_En := [(16, .iadd, 17, []), (17, .iaload, 18, []), (18, .istore 5, 20, []), (20, .aload_n 0, 21, []), (21, .getfield 55, 24, []), (24, .iload_n 1, 25, []), (25, .iload 4, 27, []), (27, .iadd, 28, []), (28, .aload_n 0, 29, []), (29, .getfield 55, 32, [])]
theorem kX8_exchange_1 : tX8_exchange_1.all (am_okE cX8_exchange) = true := by decide +kernel
def tX8_exchange_2 : List am_En := [(32, .iload_n 2, 33, []), (33, .iload 4, 35, []), (35, .iadd, 36, []), (36, .iaload, 37, []), (37, .iastore, 38, []), (38, .aload_n 0, 39, []), (39, .getfield 55, 42, []), (42, .iload_n 2, 43, []), (43, .iload 4, 45, []), (45, .iadd, 46, []), (46, .iload 5, 48, [])]
theorem kX8_exchange_2 : tX8_exchange_2.all (am_okE cX8_exchange) = true := by decide +kernel
def tX8_exchange_3 : List am_En := [(48, .iastore, 49, []), (49, .iinc 4 1, 52, []), (52, .goto (-49), 55, [3]), (55, .return_, 56, [])]
theorem kX8_exchange_3 : tX8_exchange_3.all (am_okE cX8_exchange) = true := by decide +kernel
def tX8_exchange : List (List am_En) := [tX8_exchange_0, tX8_exchange_1, tX8_exchange_2, tX8_exchange_3]
def mX8_exchange : am_MR := (yX8_exchange, cX8_exchange, 6, none, 8, 3, (0, 0), tX8_exchange)
theorem kX8_exchange : am_chk cX8_exchange tX8_exchange = true := am_chk_c kX8_exchange_0 (am_chk_c kX8_exchange_1 (am_chk_c kX8_exchange_2 (am_chk_c kX8_exchange_3 (rfl))))
def tX8_onceOf_0 : List am_En := [(0, .aload_n 0, 1, []), (1, .getfield 25, 4, []), (4, .iload_n 1, 5, []), (5, .iaload, 6, []), (6, .istore_n 2, 7, []), (7, .aload_n 0, 8, []), (8, .getfield 128, 11, []), (11, .istore_n 3, 12, []), (12, .aload_n 0, 13, []), (13, .aload_n 0, 14, []), (14, .getfield 28, 17, [])]
theorem kX8_onceOf_0 : tX8_onceOf_0.all (am_okE cX8_onceOf) = true := by decide +kernel
def tX8_onceOf_1 : List am_En := [(17, .iload_n 1, 18, []), (18, .iaload, 19, []), (19, .invokevirtual 131, 22, []), (22, .istore 4, 24, []), (24, .iconst 0, 25, []), (25, .istore 5, 27, []), (27, .iconst 0, 28, []), (28, .istore 6, 30, []), (30, .iload 6, 32, [])]
theorem kX8_onceOf_1 : tX8_onceOf_1.all (am_okE cX8_onceOf) = true := by decide +kernel
def tX8_onceOf_2 : List am_En := [(32, .iload 4, 34, []), (34, .if_icmp .ge 88, 37, [122]), (37, .iconst 1, 38, []), (38, .istore 7, 40, []), (40, .iconst 0, 41, []), (41, .istore 8, 43, []), (43, .iload 8, 45, []), (45, .iload 5, 47, []), (47, .if_icmp .ge 44, 50, [91])]
theorem kX8_onceOf_2 : tX8_onceOf_2.all (am_okE cX8_onceOf) = true := by decide +kernel
def tX8_onceOf_3 : List am_En := [(50, .iload 7, 52, []), (52, .ifCond .eq 39, 55, [91]), (55, .aload_n 0, 56, []), (56, .iload_n 3, 57, []), (57, .iload_n 2, 58, []), (58, .iload 8, 60, []), (60, .imul, 61, []), (61, .iadd, 62, []), (62, .iload_n 3, 63, []), (63, .iload_n 2, 64, [])]
theorem kX8_onceOf_3 : tX8_onceOf_3.all (am_okE cX8_onceOf) = true := by decide +kernel
def tX8_onceOf_4 : List am_En := [(64, .iload 6, 66, []), (66, .imul, 67, []), (67, .iadd, 68, []), (68, .iload_n 2, 69, []), (69, .sipush 255, 72, []), (72, .invokevirtual 144, 75, []), (75, .ifCond .ne 7, 78, [82]), (78, .iconst 1, 79, []), (79, .goto 4, 82, [83])]
theorem kX8_onceOf_4 : tX8_onceOf_4.all (am_okE cX8_onceOf) = true := by decide +kernel
def tX8_onceOf_5 : List am_En := [(82, .iconst 0, 83, []), (83, .istore 7, 85, []), (85, .iinc 8 1, 88, []), (88, .goto (-45), 91, [43]), (91, .iload 7, 93, []), (93, .ifCond .eq 23, 96, [116])]
theorem kX8_onceOf_5 : tX8_onceOf_5.all (am_okE cX8_onceOf) = true := by decide +kernel
def tX8_onceOf_6 : List am_En := [(96, .aload_n 0, 97, []), (97, .iload_n 3, 98, []), (98, .iload_n 2, 99, []), (99, .iload 6, 101, []), (101, .imul, 102, []), (102, .iadd, 103, []), (103, .iload_n 3, 104, []), (104, .iload_n 2, 105, []), (105, .iload 5, 107, []), (107, .imul, 108, []), (108, .iadd, 109, []), (109, .iload_n 2, 110, []), (110, .invokevirtual 154, 113, [])]
theorem kX8_onceOf_6 : tX8_onceOf_6.all (am_okE cX8_onceOf) = true := by decide +kernel
def tX8_onceOf_7 : List am_En := [(113, .iinc 5 1, 116, []), (116, .iinc 6 1, 119, []), (119, .goto (-89), 122, [30]), (122, .aload_n 0, 123, []), (123, .iload_n 3, 124, []), (124, .iload_n 2, 125, []), (125, .iload 5, 127, []), (127, .imul, 128, [])]
theorem kX8_onceOf_7 : tX8_onceOf_7.all (am_okE cX8_onceOf) = true := by decide +kernel
def tX8_onceOf_8 : List am_En := [(128, .iadd, 129, []), (129, .putfield 128, 132, []), (132, .iload 5, 134, []), (134, .ireturn, 135, [])]
theorem kX8_onceOf_8 : tX8_onceOf_8.all (am_okE cX8_onceOf) = true := by decide +kernel
def tX8_onceOf : List (List am_En) := [tX8_onceOf_0, tX8_onceOf_1, tX8_onceOf_2, tX8_onceOf_3, tX8_onceOf_4, tX8_onceOf_5, tX8_onceOf_6, tX8_onceOf_7, tX8_onceOf_8]
def mX8_onceOf : am_MR := (yX8_onceOf, cX8_onceOf, 9, (some .int), 8, 1, (0, 0), tX8_onceOf)
theorem kX8_onceOf : am_chk cX8_onceOf tX8_onceOf = true := am_chk_c kX8_onceOf_0 (am_chk_c kX8_onceOf_1 (am_chk_c kX8_onceOf_2 (am_chk_c kX8_onceOf_3 (am_chk_c kX8_onceOf_4 (am_chk_c kX8_onceOf_5 (am_chk_c kX8_onceOf_6 (am_chk_c kX8_onceOf_7 (am_chk_c kX8_onceOf_8 (rfl)))))))))
def tX8_firstOf_0 : List am_En := [(0, .aload_n 0, 1, []), (1, .getfield 128, 4, []), (4, .istore_n 2, 5, []), (5, .aload_n 0, 6, []), (6, .aload_n 0, 7, []), (7, .getfield 28, 10, []), (10, .iload_n 1, 11, []), (11, .iaload, 12, []), (12, .invokevirtual 131, 15, []), (15, .istore_n 3, 16, [])]
theorem kX8_firstOf_0 : tX8_firstOf_0.all (am_okE cX8_firstOf) = true := by decide +kernel
def tX8_firstOf_1 : List am_En := [(16, .aload_n 0, 17, []), (17, .iload_n 2, 18, []), (18, .iload_n 3, 19, []), (19, .aload_n 0, 20, []), (20, .getfield 25, 23, []), (23, .iload_n 1, 24, []), (24, .iaload, 25, []), (25, .aload_n 0, 26, []), (26, .getfield 31, 29, []), (29, .iload_n 1, 30, []), (30, .iaload, 31, []), (31, .invokevirtual 201, 34, [])]
theorem kX8_firstOf_1 : tX8_firstOf_1.all (am_okE cX8_firstOf) = true := by decide +kernel
def tX8_firstOf_2 : List am_En := [(34, .iload_n 3, 35, []), (35, .aload_n 0, 36, []), (36, .getfield 31, 39, []), (39, .iload_n 1, 40, []), (40, .iaload, 41, []), (41, .if_icmp .ge 7, 44, [48]), (44, .iload_n 3, 45, []), (45, .goto 9, 48, [54])]
theorem kX8_firstOf_2 : tX8_firstOf_2.all (am_okE cX8_firstOf) = true := by decide +kernel
def tX8_firstOf_3 : List am_En := [(48, .aload_n 0, 49, []), (49, .getfield 31, 52, []), (52, .iload_n 1, 53, []), (53, .iaload, 54, []), (54, .istore 4, 56, []), (56, .aload_n 0, 57, []), (57, .iload_n 2, 58, []), (58, .aload_n 0, 59, []), (59, .getfield 25, 62, []), (62, .iload_n 1, 63, []), (63, .iaload, 64, [])]
theorem kX8_firstOf_3 : tX8_firstOf_3.all (am_okE cX8_firstOf) = true := by decide +kernel
def tX8_firstOf_4 : List am_En := [(64, .iload 4, 66, []), (66, .imul, 67, []), (67, .iadd, 68, []), (68, .putfield 128, 71, []), (71, .iload 4, 73, []), (73, .ireturn, 74, [])]
theorem kX8_firstOf_4 : tX8_firstOf_4.all (am_okE cX8_firstOf) = true := by decide +kernel
def tX8_firstOf : List (List am_En) := [tX8_firstOf_0, tX8_firstOf_1, tX8_firstOf_2, tX8_firstOf_3, tX8_firstOf_4]
def mX8_firstOf : am_MR := (yX8_firstOf, cX8_firstOf, 5, (some .int), 8, 1, (0, 0), tX8_firstOf)
theorem kX8_firstOf : am_chk cX8_firstOf tX8_firstOf = true := am_chk_c kX8_firstOf_0 (am_chk_c kX8_firstOf_1 (am_chk_c kX8_firstOf_2 (am_chk_c kX8_firstOf_3 (am_chk_c kX8_firstOf_4 (rfl)))))
def tX8_order_0 : List am_En := [(0, .iconst 0, 1, []), (1, .istore 5, 3, []), (3, .iload 5, 5, []), (5, .iload 4, 7, []), (7, .if_icmp .ge 83, 10, [90]), (10, .iload 5, 12, []), (12, .iload_n 2, 13, []), (13, .if_icmp .ge 77, 16, [90])]
theorem kX8_order_0 : tX8_order_0.all (am_okE cX8_order) = true := by decide +kernel
def tX8_order_1 : List am_En := [(16, .iload 5, 18, []), (18, .istore 6, 20, []), (20, .iload 5, 22, []), (22, .iconst 1, 23, []), (23, .iadd, 24, []), (24, .istore 7, 26, []), (26, .iload 7, 28, []), (28, .iload_n 2, 29, []), (29, .if_icmp .ge 38, 32, [67])]
theorem kX8_order_1 : tX8_order_1.all (am_okE cX8_order) = true := by decide +kernel
def tX8_order_2 : List am_En := [(32, .aload_n 0, 33, []), (33, .iload_n 1, 34, []), (34, .iload_n 3, 35, []), (35, .iload 7, 37, []), (37, .imul, 38, []), (38, .iadd, 39, []), (39, .iload_n 1, 40, []), (40, .iload_n 3, 41, []), (41, .iload 6, 43, []), (43, .imul, 44, []), (44, .iadd, 45, []), (45, .iload_n 3, 46, []), (46, .invokevirtual 198, 49, [])]
theorem kX8_order_2 : tX8_order_2.all (am_okE cX8_order) = true := by decide +kernel
def tX8_order_3 : List am_En := [(49, .ifCond .eq 8, 52, [57]), (52, .iload 7, 54, []), (54, .goto 5, 57, [59]), (57, .iload 6, 59, []), (59, .istore 6, 61, []), (61, .iinc 7 1, 64, [])]
theorem kX8_order_3 : tX8_order_3.all (am_okE cX8_order) = true := by decide +kernel
def tX8_order_4 : List am_En := [(64, .goto (-38), 67, [26]), (67, .aload_n 0, 68, []), (68, .iload_n 1, 69, []), (69, .iload_n 3, 70, []), (70, .iload 5, 72, []), (72, .imul, 73, []), (73, .iadd, 74, []), (74, .iload_n 1, 75, []), (75, .iload_n 3, 76, []), (76, .iload 6, 78, []), (78, .imul, 79, []), (79, .iadd, 80, [])]
theorem kX8_order_4 : tX8_order_4.all (am_okE cX8_order) = true := by decide +kernel
def tX8_order_5 : List am_En := [(80, .iload_n 3, 81, []), (81, .invokevirtual 195, 84, []), (84, .iinc 5 1, 87, []), (87, .goto (-84), 90, [3]), (90, .return_, 91, [])]
theorem kX8_order_5 : tX8_order_5.all (am_okE cX8_order) = true := by decide +kernel
def tX8_order : List (List am_En) := [tX8_order_0, tX8_order_1, tX8_order_2, tX8_order_3, tX8_order_4, tX8_order_5]
def mX8_order : am_MR := (yX8_order, cX8_order, 8, none, 8, 4, (0, 0), tX8_order)
theorem kX8_order : am_chk cX8_order tX8_order = true := am_chk_c kX8_order_0 (am_chk_c kX8_order_1 (am_chk_c kX8_order_2 (am_chk_c kX8_order_3 (am_chk_c kX8_order_4 (am_chk_c kX8_order_5 (rfl))))))
def tX8_isBefore_0 : List am_En := [(0, .iconst 0, 1, []), (1, .istore 4, 3, []), (3, .iload 4, 5, []), (5, .iload_n 3, 6, []), (6, .iconst 1, 7, []), (7, .isub, 8, []), (8, .if_icmp .ge 30, 11, [38]), (11, .aload_n 0, 12, []), (12, .getfield 55, 15, []), (15, .iload_n 1, 16, [])]
theorem kX8_isBefore_0 : tX8_isBefore_0.all (am_okE cX8_isBefore) = true := by decide +kernel
def tX8_isBefore_1 : List am_En := [(16, .iload 4, 18, []), (18, .iadd, 19, []), (19, .iaload, 20, []), (20, .aload_n 0, 21, []), (21, .getfield 55, 24, []), (24, .iload_n 2, 25, []), (25, .iload 4, 27, []), (27, .iadd, 28, []), (28, .iaload, 29, []), (29, .if_icmp .ne 9, 32, [38])]
theorem kX8_isBefore_1 : tX8_isBefore_1.all (am_okE cX8_isBefore) = true := by decide +kernel
def tX8_isBefore_2 : List am_En := [(32, .iinc 4 1, 35, []), (35, .goto (-32), 38, [3]), (38, .aload_n 0, 39, []), (39, .getfield 55, 42, []), (42, .iload_n 1, 43, []), (43, .iload 4, 45, []), (45, .iadd, 46, []), (46, .iaload, 47, []), (47, .aload_n 0, 48, [])]
theorem kX8_isBefore_2 : tX8_isBefore_2.all (am_okE cX8_isBefore) = true := by decide +kernel
def tX8_isBefore_3 : List am_En := [(48, .getfield 55, 51, []), (51, .iload_n 2, 52, []), (52, .iload 4, 54, []), (54, .iadd, 55, []), (55, .iaload, 56, []), (56, .if_icmp .ge 7, 59, [63]), (59, .iconst 1, 60, []), (60, .goto 4, 63, [64]), (63, .iconst 0, 64, [])]
theorem kX8_isBefore_3 : tX8_isBefore_3.all (am_okE cX8_isBefore) = true := by decide +kernel
def tX8_isBefore_4 : List am_En := [(64, .ireturn, 65, [])]
theorem kX8_isBefore_4 : tX8_isBefore_4.all (am_okE cX8_isBefore) = true := by decide +kernel
def tX8_isBefore : List (List am_En) := [tX8_isBefore_0, tX8_isBefore_1, tX8_isBefore_2, tX8_isBefore_3, tX8_isBefore_4]
def mX8_isBefore : am_MR := (yX8_isBefore, cX8_isBefore, 5, (some .boolean), 8, 3, (0, 0), tX8_isBefore)
theorem kX8_isBefore : am_chk cX8_isBefore tX8_isBefore = true := am_chk_c kX8_isBefore_0 (am_chk_c kX8_isBefore_1 (am_chk_c kX8_isBefore_2 (am_chk_c kX8_isBefore_3 (am_chk_c kX8_isBefore_4 (rfl)))))
def tX8_grouped_0 : List am_En := [(0, .aload_n 0, 1, []), (1, .getfield 128, 4, []), (4, .istore_n 2, 5, []), (5, .aload_n 0, 6, []), (6, .aload_n 0, 7, []), (7, .getfield 28, 10, []), (10, .iload_n 1, 11, []), (11, .iaload, 12, []), (12, .invokevirtual 131, 15, []), (15, .istore_n 3, 16, [])]
theorem kX8_grouped_0 : tX8_grouped_0.all (am_okE cX8_grouped) = true := by decide +kernel
def tX8_grouped_1 : List am_En := [(16, .aload_n 0, 17, []), (17, .getfield 25, 20, []), (20, .aload_n 0, 21, []), (21, .getfield 28, 24, []), (24, .iload_n 1, 25, []), (25, .iaload, 26, []), (26, .iaload, 27, []), (27, .istore 4, 29, []), (29, .aload_n 0, 30, []), (30, .getfield 128, 33, [])]
theorem kX8_grouped_1 : tX8_grouped_1.all (am_okE cX8_grouped) = true := by decide +kernel
def tX8_grouped_2 : List am_En := [(33, .istore 5, 35, []), (35, .aload_n 0, 36, []), (36, .getfield 31, 39, []), (39, .iload_n 1, 40, []), (40, .iaload, 41, []), (41, .ifCond .ne 44, 44, [85]), (44, .aload_n 0, 45, []), (45, .getfield 55, 48, [])]
theorem kX8_grouped_2 : tX8_grouped_2.all (am_okE cX8_grouped) = true := by decide +kernel
def tX8_grouped_3 : List am_En := [(48, .aload_n 0, 49, []), (49, .getfield 128, 52, []), (52, .aload_n 0, 53, []), (53, .aload_n 0, 54, []), (54, .getfield 34, 57, []), (57, .iload_n 1, 58, []), (58, .iaload, 59, []), (59, .iload_n 2, 60, []), (60, .iload_n 3, 61, []), (61, .iload 4, 63, []), (63, .aload_n 0, 64, [])]
theorem kX8_grouped_3 : tX8_grouped_3.all (am_okE cX8_grouped) = true := by decide +kernel
def tX8_grouped_4 : List am_En := [(64, .getfield 37, 67, []), (67, .iload_n 1, 68, []), (68, .iaload, 69, []), (69, .iconst (-1), 70, []), (70, .iconst 0, 71, []), (71, .invokevirtual 134, 74, []), (74, .iastore, 75, []), (75, .aload_n 0, 76, []), (76, .iload 5, 78, []), (78, .iload_n 2, 79, []), (79, .iconst 1, 80, [])]
theorem kX8_grouped_4 : tX8_grouped_4.all (am_okE cX8_grouped) = true := by decide +kernel
def tX8_grouped_5 : List am_En := [(80, .iconst 1, 81, []), (81, .invokevirtual 192, 84, []), (84, .ireturn, 85, []), (85, .iconst 0, 86, []), (86, .istore 6, 88, []), (88, .iconst 0, 89, []), (89, .istore 7, 91, []), (91, .iload 7, 93, []), (93, .iload_n 3, 94, []), (94, .if_icmp .ge 197, 97, [291])]
theorem kX8_grouped_5 : tX8_grouped_5.all (am_okE cX8_grouped) = true := by decide +kernel
def tX8_grouped_6 : List am_En := [(97, .iconst 1, 98, []), (98, .istore 8, 100, []), (100, .iconst 0, 101, []), (101, .istore 9, 103, []), (103, .iload 9, 105, []), (105, .iload 7, 107, []), (107, .if_icmp .ge 50, 110, [157]), (110, .iload 8, 112, [])]
theorem kX8_grouped_6 : tX8_grouped_6.all (am_okE cX8_grouped) = true := by decide +kernel
def tX8_grouped_7 : List am_En := [(112, .ifCond .eq 45, 115, [157]), (115, .aload_n 0, 116, []), (116, .iload_n 2, 117, []), (117, .iload 4, 119, []), (119, .iload 9, 121, []), (121, .imul, 122, []), (122, .iadd, 123, []), (123, .iload_n 2, 124, []), (124, .iload 4, 126, []), (126, .iload 7, 128, [])]
theorem kX8_grouped_7 : tX8_grouped_7.all (am_okE cX8_grouped) = true := by decide +kernel
def tX8_grouped_8 : List am_En := [(128, .imul, 129, []), (129, .iadd, 130, []), (130, .iload 4, 132, []), (132, .aload_n 0, 133, []), (133, .getfield 31, 136, []), (136, .iload_n 1, 137, []), (137, .iaload, 138, []), (138, .invokevirtual 144, 141, []), (141, .ifCond .ne 7, 144, [148])]
theorem kX8_grouped_8 : tX8_grouped_8.all (am_okE cX8_grouped) = true := by decide +kernel
def tX8_grouped_9 : List am_En := [(144, .iconst 1, 145, []), (145, .goto 4, 148, [149]), (148, .iconst 0, 149, []), (149, .istore 8, 151, []), (151, .iinc 9 1, 154, []), (154, .goto (-51), 157, [103]), (157, .iload 8, 159, []), (159, .ifCond .ne 6, 162, [165])]
theorem kX8_grouped_9 : tX8_grouped_9.all (am_okE cX8_grouped) = true := by decide +kernel
def tX8_grouped_10 : List am_En := [(162, .goto 123, 165, [285]), (165, .iconst 0, 166, []), (166, .istore 9, 168, []), (168, .iload 9, 170, []), (170, .iload 4, 172, []), (172, .if_icmp .ge 58, 175, [230]), (175, .aload_n 0, 176, [])]
theorem kX8_grouped_10 : tX8_grouped_10.all (am_okE cX8_grouped) = true := by decide +kernel
def tX8_grouped_11 : List am_En := [(176, .getfield 31, 179, []), (179, .iload_n 1, 180, []), (180, .iaload, 181, []), (181, .iload 9, 183, []), (183, .ishr, 184, []), (184, .iconst 1, 185, []), (185, .iand, 186, []), (186, .iconst 1, 187, []), (187, .if_icmp .ne 37, 190, [224]), (190, .aload_n 0, 191, []), (191, .getfield 55, 194, [])]
theorem kX8_grouped_11 : tX8_grouped_11.all (am_okE cX8_grouped) = true := by decide +kernel
def tX8_grouped_12 : List am_En := [(194, .aload_n 0, 195, []), (195, .getfield 128, 198, []), (198, .aload_n 0, 199, []), (199, .getfield 55, 202, []), (202, .iload_n 2, 203, []), (203, .iload 4, 205, []), (205, .iload 7, 207, []), (207, .imul, 208, [])]
theorem kX8_grouped_12 : tX8_grouped_12.all (am_okE cX8_grouped) = true := by decide +kernel
def tX8_grouped_13 : List am_En := [(208, .iadd, 209, []), (209, .iload 9, 211, []), (211, .iadd, 212, []), (212, .iaload, 213, []), (213, .iastore, 214, []), (214, .aload_n 0, 215, []), (215, .dup, 216, []), (216, .getfield 128, 219, []), (219, .iconst 1, 220, []), (220, .iadd, 221, []), (221, .putfield 128, 224, [])]
theorem kX8_grouped_13 : tX8_grouped_13.all (am_okE cX8_grouped) = true := by decide +kernel
def tX8_grouped_14 : List am_En := [(224, .iinc 9 1, 227, []), (227, .goto (-59), 230, [168]), (230, .aload_n 0, 231, []), (231, .getfield 55, 234, []), (234, .aload_n 0, 235, []), (235, .getfield 128, 238, []), (238, .aload_n 0, 239, []), (239, .aload_n 0, 240, [])]
theorem kX8_grouped_14 : tX8_grouped_14.all (am_okE cX8_grouped) = true := by decide +kernel
def tX8_grouped_15 : List am_En := [(240, .getfield 34, 243, []), (243, .iload_n 1, 244, []), (244, .iaload, 245, []), (245, .iload_n 2, 246, []), (246, .iload_n 3, 247, []), (247, .iload 4, 249, []), (249, .aload_n 0, 250, []), (250, .getfield 37, 253, []), (253, .iload_n 1, 254, []), (254, .iaload, 255, []), (255, .iload_n 2, 256, [])]
theorem kX8_grouped_15 : tX8_grouped_15.all (am_okE cX8_grouped) = true := by decide +kernel
def tX8_grouped_16 : List am_En := [(256, .iload 4, 258, []), (258, .iload 7, 260, []), (260, .imul, 261, []), (261, .iadd, 262, []), (262, .aload_n 0, 263, []), (263, .getfield 31, 266, []), (266, .iload_n 1, 267, []), (267, .iaload, 268, []), (268, .invokevirtual 134, 271, []), (271, .iastore, 272, [])]
theorem kX8_grouped_16 : tX8_grouped_16.all (am_okE cX8_grouped) = true := by decide +kernel
def tX8_grouped_17 : List am_En := [(272, .aload_n 0, 273, []), (273, .dup, 274, []), (274, .getfield 128, 277, []), (277, .iconst 1, 278, []), (278, .iadd, 279, []), (279, .putfield 128, 282, []), (282, .iinc 6 1, 285, []), (285, .iinc 7 1, 288, [])]
theorem kX8_grouped_17 : tX8_grouped_17.all (am_okE cX8_grouped) = true := by decide +kernel
def tX8_grouped_18 : List am_En := [(288, .goto (-197), 291, [91]), (291, .aload_n 0, 292, []), (292, .iload 5, 294, []), (294, .iload_n 2, 295, []), (295, .iload 6, 297, []), (297, .aload_n 0, 298, []), (298, .getfield 25, 301, []), (301, .iload_n 1, 302, []), (302, .iaload, 303, []), (303, .invokevirtual 192, 306, [])]
theorem kX8_grouped_18 : tX8_grouped_18.all (am_okE cX8_grouped) = true := by decide +kernel
def tX8_grouped_19 : List am_En := [(306, .ireturn, 307, [])]
theorem kX8_grouped_19 : tX8_grouped_19.all (am_okE cX8_grouped) = true := by decide +kernel
def tX8_grouped : List (List am_En) := [tX8_grouped_0, tX8_grouped_1, tX8_grouped_2, tX8_grouped_3, tX8_grouped_4, tX8_grouped_5, tX8_grouped_6, tX8_grouped_7, tX8_grouped_8, tX8_grouped_9, tX8_grouped_10, tX8_grouped_11, tX8_grouped_12, tX8_grouped_13, tX8_grouped_14, tX8_grouped_15, tX8_grouped_16, tX8_grouped_17, tX8_grouped_18, tX8_grouped_19]
def mX8_grouped : am_MR := (yX8_grouped, cX8_grouped, 10, (some .int), 8, 1, (0, 0), tX8_grouped)
theorem kX8_grouped : am_chk cX8_grouped tX8_grouped = true := am_chk_c kX8_grouped_0 (am_chk_c kX8_grouped_1 (am_chk_c kX8_grouped_2 (am_chk_c kX8_grouped_3 (am_chk_c kX8_grouped_4 (am_chk_c kX8_grouped_5 (am_chk_c kX8_grouped_6 (am_chk_c kX8_grouped_7 (am_chk_c kX8_grouped_8 (am_chk_c kX8_grouped_9 (am_chk_c kX8_grouped_10 (am_chk_c kX8_grouped_11 (am_chk_c kX8_grouped_12 (am_chk_c kX8_grouped_13 (am_chk_c kX8_grouped_14 (am_chk_c kX8_grouped_15 (am_chk_c kX8_grouped_16 (am_chk_c kX8_grouped_17 (am_chk_c kX8_grouped_18 (am_chk_c kX8_grouped_19 (rfl))))))))))))))))))))
def tX8_cell_0 : List am_En := [(0, .iload_n 1, 1, []), (1, .iconst 0, 2, []), (2, .aload_n 0, 3, []), (3, .getfield 207, 6, []), (6, .iconst 1, 7, []), (7, .isub, 8, []), (8, .invokestatic 65, 11, []), (11, .ifCond .eq 34, 14, [45]), (14, .iload_n 2, 15, []), (15, .iconst 0, 16, [])]
theorem kX8_cell_0 : tX8_cell_0.all (am_okE cX8_cell) = true := by decide +kernel
def tX8_cell_1 : List am_En := [(16, .aload_n 0, 17, []), (17, .getfield 210, 20, []), (20, .iconst 1, 21, []), (21, .isub, 22, []), (22, .invokestatic 65, 25, []), (25, .ifCond .eq 20, 28, [45]), (28, .aload_n 0, 29, []), (29, .getfield 51, 32, [])]
theorem kX8_cell_1 : tX8_cell_1.all (am_okE cX8_cell) = true := by decide +kernel
def tX8_cell_2 : List am_En := [(32, .aload_n 0, 33, []), (33, .getfield 210, 36, []), (36, .iload_n 1, 37, []), (37, .imul, 38, []), (38, .iload_n 2, 39, []), (39, .iadd, 40, []), (40, .iaload, 41, []), (41, .i2l, 42, []), (42, .goto 6, 45, [48]), (45, .ldc2_w 213, 48, [])]
theorem kX8_cell_2 : tX8_cell_2.all (am_okE cX8_cell) = true := by decide +kernel
def tX8_cell_3 : List am_En := [(48, .lreturn, 49, [])]
theorem kX8_cell_3 : tX8_cell_3.all (am_okE cX8_cell) = true := by decide +kernel
def tX8_cell : List (List am_En) := [tX8_cell_0, tX8_cell_1, tX8_cell_2, tX8_cell_3]
def mX8_cell : am_MR := (yX8_cell, cX8_cell, 3, (some .long), 8, 2, (0, 0), tX8_cell)
theorem kX8_cell : am_chk cX8_cell tX8_cell = true := am_chk_c kX8_cell_0 (am_chk_c kX8_cell_1 (am_chk_c kX8_cell_2 (am_chk_c kX8_cell_3 (rfl))))
def tX8_count_0 : List am_En := [(0, .iload_n 1, 1, []), (1, .ifCond .ne 10, 4, [11]), (4, .aload_n 0, 5, []), (5, .getfield 61, 8, []), (8, .goto 40, 11, [48]), (11, .iload_n 1, 12, []), (12, .iconst 1, 13, []), (13, .if_icmp .ne 10, 16, [23])]
theorem kX8_count_0 : tX8_count_0.all (am_okE cX8_count) = true := by decide +kernel
def tX8_count_1 : List am_En := [(16, .aload_n 0, 17, []), (17, .getfield 69, 20, []), (20, .goto 28, 23, [48]), (23, .iload_n 1, 24, []), (24, .iconst 2, 25, []), (25, .if_icmp .ne 10, 28, [35]), (28, .aload_n 0, 29, []), (29, .getfield 207, 32, [])]
theorem kX8_count_1 : tX8_count_1.all (am_okE cX8_count) = true := by decide +kernel
def tX8_count_2 : List am_En := [(32, .goto 16, 35, [48]), (35, .iload_n 1, 36, []), (36, .iconst 3, 37, []), (37, .if_icmp .ne 10, 40, [47]), (40, .aload_n 0, 41, []), (41, .getfield 210, 44, []), (44, .goto 4, 47, [48]), (47, .iconst (-1), 48, [])]
theorem kX8_count_2 : tX8_count_2.all (am_okE cX8_count) = true := by decide +kernel
def tX8_count_3 : List am_En := [(48, .ireturn, 49, [])]
theorem kX8_count_3 : tX8_count_3.all (am_okE cX8_count) = true := by decide +kernel
def tX8_count : List (List am_En) := [tX8_count_0, tX8_count_1, tX8_count_2, tX8_count_3]
def mX8_count : am_MR := (yX8_count, cX8_count, 2, (some .int), 8, 1, (0, 0), tX8_count)
theorem kX8_count : am_chk cX8_count tX8_count = true := am_chk_c kX8_count_0 (am_chk_c kX8_count_1 (am_chk_c kX8_count_2 (am_chk_c kX8_count_3 (rfl))))
def tX9_init_0 : List am_En := [(0, .aload_n 0, 1, []), (1, .invokespecial 3, 4, []), (4, .aload_n 0, 5, []), (5, .iload_n 1, 6, []), (6, .putfield 9, 9, []), (9, .aload_n 0, 10, []), (10, .iload_n 1, 11, []), (11, .bipush 24, 13, []), (13, .imul, 14, []), (14, .newarray .int, 16, [])]
theorem kX9_init_0 : tX9_init_0.all (am_okE cX9_init) = true := by decide +kernel
def tX9_init_1 : List am_En := [(16, .putfield 15, 19, []), (19, .return_, 20, [])]
theorem kX9_init_1 : tX9_init_1.all (am_okE cX9_init) = true := by decide +kernel
def tX9_init : List (List am_En) := [tX9_init_0, tX9_init_1]
def mX9_init : am_MR := (yX9_init, cX9_init, 2, none, 9, 1, (1, 96), tX9_init)
theorem kX9_init : am_chk cX9_init tX9_init = true := am_chk_c kX9_init_0 (am_chk_c kX9_init_1 (rfl))
/-- a method's record is what the tables have -/
def am_MOK (r : am_MR) : Prop := Cond.code r.1 r.2.1 r.2.2.1 r.2.2.2.1 ∈ lw_all ∧ plainName r.1.cls = true ∧ r.1.cls = am_cn r.2.2.2.2.1 ∧ (r.1.cls ≠ "java/lang/invoke/MethodHandle" ∧ r.1.cls ≠ "java/lang/invoke/VarHandle" ∧ (parseMethodDescriptor r.1.desc).map (fun d => d.parameters.length) = some r.2.2.2.2.2.1) ∧ am_chk r.2.1 r.2.2.2.2.2.2.2 = true ∧ r.2.2.1 ≤ 21
theorem oJ0_bitCount : am_MOK mJ0_bitCount := ⟨q583, by decide +kernel, rfl, ⟨by decide +kernel, by decide +kernel, by decide +kernel⟩, kJ0_bitCount, by decide⟩
theorem oX0_init : am_MOK mX0_init := ⟨q96, by decide +kernel, rfl, ⟨by decide +kernel, by decide +kernel, by decide +kernel⟩, kX0_init, by decide⟩
theorem oX0_table : am_MOK mX0_table := ⟨q418, by decide +kernel, rfl, ⟨by decide +kernel, by decide +kernel, by decide +kernel⟩, kX0_table, by decide⟩
theorem oX0_isIn : am_MOK mX0_isIn := ⟨q421, by decide +kernel, rfl, ⟨by decide +kernel, by decide +kernel, by decide +kernel⟩, kX0_isIn, by decide⟩
theorem oX0_row : am_MOK mX0_row := ⟨q446, by decide +kernel, rfl, ⟨by decide +kernel, by decide +kernel, by decide +kernel⟩, kX0_row, by decide⟩
theorem oX0_isTable : am_MOK mX0_isTable := ⟨q450, by decide +kernel, rfl, ⟨by decide +kernel, by decide +kernel, by decide +kernel⟩, kX0_isTable, by decide⟩
theorem oX0_empty : am_MOK mX0_empty := ⟨q454, by decide +kernel, rfl, ⟨by decide +kernel, by decide +kernel, by decide +kernel⟩, kX0_empty, by decide⟩
theorem oX0_constant : am_MOK mX0_constant := ⟨q458, by decide +kernel, rfl, ⟨by decide +kernel, by decide +kernel, by decide +kernel⟩, kX0_constant, by decide⟩
theorem oX0_column : am_MOK mX0_column := ⟨q473, by decide +kernel, rfl, ⟨by decide +kernel, by decide +kernel, by decide +kernel⟩, kX0_column, by decide⟩
theorem oX0_reckon : am_MOK mX0_reckon := ⟨q477, by decide +kernel, rfl, ⟨by decide +kernel, by decide +kernel, by decide +kernel⟩, kX0_reckon, by decide⟩
theorem oX0_are : am_MOK mX0_are := ⟨q481, by decide +kernel, rfl, ⟨by decide +kernel, by decide +kernel, by decide +kernel⟩, kX0_are, by decide⟩
theorem oX0_number : am_MOK mX0_number := ⟨q492, by decide +kernel, rfl, ⟨by decide +kernel, by decide +kernel, by decide +kernel⟩, kX0_number, by decide⟩
theorem oX0_isOne : am_MOK mX0_isOne := ⟨q496, by decide +kernel, rfl, ⟨by decide +kernel, by decide +kernel, by decide +kernel⟩, kX0_isOne, by decide⟩
theorem oX0_fold : am_MOK mX0_fold := ⟨q500, by decide +kernel, rfl, ⟨by decide +kernel, by decide +kernel, by decide +kernel⟩, kX0_fold, by decide⟩
theorem oX0_compare : am_MOK mX0_compare := ⟨q508, by decide +kernel, rfl, ⟨by decide +kernel, by decide +kernel, by decide +kernel⟩, kX0_compare, by decide⟩
theorem oX0_isNothing : am_MOK mX0_isNothing := ⟨q512, by decide +kernel, rfl, ⟨by decide +kernel, by decide +kernel, by decide +kernel⟩, kX0_isNothing, by decide⟩
theorem oX0_logic : am_MOK mX0_logic := ⟨q516, by decide +kernel, rfl, ⟨by decide +kernel, by decide +kernel, by decide +kernel⟩, kX0_logic, by decide⟩
theorem oX0_has : am_MOK mX0_has := ⟨q520, by decide +kernel, rfl, ⟨by decide +kernel, by decide +kernel, by decide +kernel⟩, kX0_has, by decide⟩
theorem oX0_some : am_MOK mX0_some := ⟨q524, by decide +kernel, rfl, ⟨by decide +kernel, by decide +kernel, by decide +kernel⟩, kX0_some, by decide⟩
theorem oX0_quantified : am_MOK mX0_quantified := ⟨q528, by decide +kernel, rfl, ⟨by decide +kernel, by decide +kernel, by decide +kernel⟩, kX0_quantified, by decide⟩
theorem oX0_each : am_MOK mX0_each := ⟨q532, by decide +kernel, rfl, ⟨by decide +kernel, by decide +kernel, by decide +kernel⟩, kX0_each, by decide⟩
theorem oX0_scan : am_MOK mX0_scan := ⟨q536, by decide +kernel, rfl, ⟨by decide +kernel, by decide +kernel, by decide +kernel⟩, kX0_scan, by decide⟩
theorem oX0_filter : am_MOK mX0_filter := ⟨q540, by decide +kernel, rfl, ⟨by decide +kernel, by decide +kernel, by decide +kernel⟩, kX0_filter, by decide⟩
theorem oX0_more : am_MOK mX0_more := ⟨q548, by decide +kernel, rfl, ⟨by decide +kernel, by decide +kernel, by decide +kernel⟩, kX0_more, by decide⟩
theorem oX0_only : am_MOK mX0_only := ⟨q552, by decide +kernel, rfl, ⟨by decide +kernel, by decide +kernel, by decide +kernel⟩, kX0_only, by decide⟩
theorem oX0_pairs : am_MOK mX0_pairs := ⟨q556, by decide +kernel, rfl, ⟨by decide +kernel, by decide +kernel, by decide +kernel⟩, kX0_pairs, by decide⟩
theorem oX0_isNarrow : am_MOK mX0_isNarrow := ⟨q560, by decide +kernel, rfl, ⟨by decide +kernel, by decide +kernel, by decide +kernel⟩, kX0_isNarrow, by decide⟩
theorem oX0_apply : am_MOK mX0_apply := ⟨q564, by decide +kernel, rfl, ⟨by decide +kernel, by decide +kernel, by decide +kernel⟩, kX0_apply, by decide⟩
theorem oX0_both : am_MOK mX0_both := ⟨q568, by decide +kernel, rfl, ⟨by decide +kernel, by decide +kernel, by decide +kernel⟩, kX0_both, by decide⟩
theorem oX0_once : am_MOK mX0_once := ⟨q572, by decide +kernel, rfl, ⟨by decide +kernel, by decide +kernel, by decide +kernel⟩, kX0_once, by decide⟩
theorem oX0_first : am_MOK mX0_first := ⟨q576, by decide +kernel, rfl, ⟨by decide +kernel, by decide +kernel, by decide +kernel⟩, kX0_first, by decide⟩
theorem oX0_groups : am_MOK mX0_groups := ⟨q580, by decide +kernel, rfl, ⟨by decide +kernel, by decide +kernel, by decide +kernel⟩, kX0_groups, by decide⟩
theorem oX0_forget : am_MOK mX0_forget := ⟨q590, by decide +kernel, rfl, ⟨by decide +kernel, by decide +kernel, by decide +kernel⟩, kX0_forget, by decide⟩
theorem oX0_told : am_MOK mX0_told := ⟨q594, by decide +kernel, rfl, ⟨by decide +kernel, by decide +kernel, by decide +kernel⟩, kX0_told, by decide⟩
theorem oX0_run : am_MOK mX0_run := ⟨q627, by decide +kernel, rfl, ⟨by decide +kernel, by decide +kernel, by decide +kernel⟩, kX0_run, by decide⟩
theorem oX0_cell : am_MOK mX0_cell := ⟨q920, by decide +kernel, rfl, ⟨by decide +kernel, by decide +kernel, by decide +kernel⟩, kX0_cell, by decide⟩
theorem oX0_count : am_MOK mX0_count := ⟨q925, by decide +kernel, rfl, ⟨by decide +kernel, by decide +kernel, by decide +kernel⟩, kX0_count, by decide⟩
theorem oX1_init : am_MOK mX1_init := ⟨q106, by decide +kernel, rfl, ⟨by decide +kernel, by decide +kernel, by decide +kernel⟩, kX1_init, by decide⟩
theorem oX1_hasRoom : am_MOK mX1_hasRoom := ⟨q462, by decide +kernel, rfl, ⟨by decide +kernel, by decide +kernel, by decide +kernel⟩, kX1_hasRoom, by decide⟩
theorem oX1_add : am_MOK mX1_add := ⟨q466, by decide +kernel, rfl, ⟨by decide +kernel, by decide +kernel, by decide +kernel⟩, kX1_add, by decide⟩
theorem oX1_isInside : am_MOK mX1_isInside := ⟨q469, by decide +kernel, rfl, ⟨by decide +kernel, by decide +kernel, by decide +kernel⟩, kX1_isInside, by decide⟩
theorem oX1_is : am_MOK mX1_is := ⟨q485, by decide +kernel, rfl, ⟨by decide +kernel, by decide +kernel, by decide +kernel⟩, kX1_is, by decide⟩
theorem oX1_sort : am_MOK mX1_sort := ⟨q488, by decide +kernel, rfl, ⟨by decide +kernel, by decide +kernel, by decide +kernel⟩, kX1_sort, by decide⟩
theorem oX1_hasColumn : am_MOK mX1_hasColumn := ⟨q504, by decide +kernel, rfl, ⟨by decide +kernel, by decide +kernel, by decide +kernel⟩, kX1_hasColumn, by decide⟩
theorem oX1_fits : am_MOK mX1_fits := ⟨q544, by decide +kernel, rfl, ⟨by decide +kernel, by decide +kernel, by decide +kernel⟩, kX1_fits, by decide⟩
theorem oX1_cost : am_MOK mX1_cost := ⟨q599, by decide +kernel, rfl, ⟨by decide +kernel, by decide +kernel, by decide +kernel⟩, kX1_cost, by decide⟩
theorem oX1_ownSize : am_MOK mX1_ownSize := ⟨q603, by decide +kernel, rfl, ⟨by decide +kernel, by decide +kernel, by decide +kernel⟩, kX1_ownSize, by decide⟩
theorem oX1_cut : am_MOK mX1_cut := ⟨q612, by decide +kernel, rfl, ⟨by decide +kernel, by decide +kernel, by decide +kernel⟩, kX1_cut, by decide⟩
theorem oX1_ownCost : am_MOK mX1_ownCost := ⟨q618, by decide +kernel, rfl, ⟨by decide +kernel, by decide +kernel, by decide +kernel⟩, kX1_ownCost, by decide⟩
theorem oX1_size : am_MOK mX1_size := ⟨q622, by decide +kernel, rfl, ⟨by decide +kernel, by decide +kernel, by decide +kernel⟩, kX1_size, by decide⟩
theorem oX1_isBag : am_MOK mX1_isBag := ⟨q631, by decide +kernel, rfl, ⟨by decide +kernel, by decide +kernel, by decide +kernel⟩, kX1_isBag, by decide⟩
theorem oX2_init : am_MOK mX2_init := ⟨q166, by decide +kernel, rfl, ⟨by decide +kernel, by decide +kernel, by decide +kernel⟩, kX2_init, by decide⟩
theorem oX2_clear : am_MOK mX2_clear := ⟨q640, by decide +kernel, rfl, ⟨by decide +kernel, by decide +kernel, by decide +kernel⟩, kX2_clear, by decide⟩
theorem oX2_unit : am_MOK mX2_unit := ⟨q644, by decide +kernel, rfl, ⟨by decide +kernel, by decide +kernel, by decide +kernel⟩, kX2_unit, by decide⟩
theorem oX2_add : am_MOK mX2_add := ⟨q648, by decide +kernel, rfl, ⟨by decide +kernel, by decide +kernel, by decide +kernel⟩, kX2_add, by decide⟩
theorem oX2_cross : am_MOK mX2_cross := ⟨q656, by decide +kernel, rfl, ⟨by decide +kernel, by decide +kernel, by decide +kernel⟩, kX2_cross, by decide⟩
theorem oX2_laid : am_MOK mX2_laid := ⟨q660, by decide +kernel, rfl, ⟨by decide +kernel, by decide +kernel, by decide +kernel⟩, kX2_laid, by decide⟩
theorem oX2_put : am_MOK mX2_put := ⟨q684, by decide +kernel, rfl, ⟨by decide +kernel, by decide +kernel, by decide +kernel⟩, kX2_put, by decide⟩
theorem oX2_pick : am_MOK mX2_pick := ⟨q688, by decide +kernel, rfl, ⟨by decide +kernel, by decide +kernel, by decide +kernel⟩, kX2_pick, by decide⟩
theorem oX2_unique : am_MOK mX2_unique := ⟨q692, by decide +kernel, rfl, ⟨by decide +kernel, by decide +kernel, by decide +kernel⟩, kX2_unique, by decide⟩
theorem oX2_span : am_MOK mX2_span := ⟨q696, by decide +kernel, rfl, ⟨by decide +kernel, by decide +kernel, by decide +kernel⟩, kX2_span, by decide⟩
theorem oX2_gather : am_MOK mX2_gather := ⟨q705, by decide +kernel, rfl, ⟨by decide +kernel, by decide +kernel, by decide +kernel⟩, kX2_gather, by decide⟩
theorem oX2_join : am_MOK mX2_join := ⟨q713, by decide +kernel, rfl, ⟨by decide +kernel, by decide +kernel, by decide +kernel⟩, kX2_join, by decide⟩
theorem oX2_pickFirst : am_MOK mX2_pickFirst := ⟨q725, by decide +kernel, rfl, ⟨by decide +kernel, by decide +kernel, by decide +kernel⟩, kX2_pickFirst, by decide⟩
theorem oX2_extend : am_MOK mX2_extend := ⟨q739, by decide +kernel, rfl, ⟨by decide +kernel, by decide +kernel, by decide +kernel⟩, kX2_extend, by decide⟩
theorem oX2_select : am_MOK mX2_select := ⟨q747, by decide +kernel, rfl, ⟨by decide +kernel, by decide +kernel, by decide +kernel⟩, kX2_select, by decide⟩
theorem oX2_sets : am_MOK mX2_sets := ⟨q763, by decide +kernel, rfl, ⟨by decide +kernel, by decide +kernel, by decide +kernel⟩, kX2_sets, by decide⟩
theorem oX2_top : am_MOK mX2_top := ⟨q767, by decide +kernel, rfl, ⟨by decide +kernel, by decide +kernel, by decide +kernel⟩, kX2_top, by decide⟩
theorem oX3_init : am_MOK mX3_init := ⟨q216, by decide +kernel, rfl, ⟨by decide +kernel, by decide +kernel, by decide +kernel⟩, kX3_init, by decide⟩
theorem oX3_whole : am_MOK mX3_whole := ⟨q636, by decide +kernel, rfl, ⟨by decide +kernel, by decide +kernel, by decide +kernel⟩, kX3_whole, by decide⟩
theorem oX3_bag : am_MOK mX3_bag := ⟨q652, by decide +kernel, rfl, ⟨by decide +kernel, by decide +kernel, by decide +kernel⟩, kX3_bag, by decide⟩
theorem oX3_within : am_MOK mX3_within := ⟨q664, by decide +kernel, rfl, ⟨by decide +kernel, by decide +kernel, by decide +kernel⟩, kX3_within, by decide⟩
theorem oX3_around : am_MOK mX3_around := ⟨q668, by decide +kernel, rfl, ⟨by decide +kernel, by decide +kernel, by decide +kernel⟩, kX3_around, by decide⟩
theorem oX3_attach : am_MOK mX3_attach := ⟨q672, by decide +kernel, rfl, ⟨by decide +kernel, by decide +kernel, by decide +kernel⟩, kX3_attach, by decide⟩
theorem oX3_folded : am_MOK mX3_folded := ⟨q676, by decide +kernel, rfl, ⟨by decide +kernel, by decide +kernel, by decide +kernel⟩, kX3_folded, by decide⟩
theorem oX3_choices : am_MOK mX3_choices := ⟨q680, by decide +kernel, rfl, ⟨by decide +kernel, by decide +kernel, by decide +kernel⟩, kX3_choices, by decide⟩
theorem oX3_fold : am_MOK mX3_fold := ⟨q701, by decide +kernel, rfl, ⟨by decide +kernel, by decide +kernel, by decide +kernel⟩, kX3_fold, by decide⟩
theorem oX3_ofNone : am_MOK mX3_ofNone := ⟨q708, by decide +kernel, rfl, ⟨by decide +kernel, by decide +kernel, by decide +kernel⟩, kX3_ofNone, by decide⟩
theorem oX3_note : am_MOK mX3_note := ⟨q717, by decide +kernel, rfl, ⟨by decide +kernel, by decide +kernel, by decide +kernel⟩, kX3_note, by decide⟩
theorem oX3_has : am_MOK mX3_has := ⟨q721, by decide +kernel, rfl, ⟨by decide +kernel, by decide +kernel, by decide +kernel⟩, kX3_has, by decide⟩
theorem oX3_quantified : am_MOK mX3_quantified := ⟨q731, by decide +kernel, rfl, ⟨by decide +kernel, by decide +kernel, by decide +kernel⟩, kX3_quantified, by decide⟩
theorem oX3_write : am_MOK mX3_write := ⟨q735, by decide +kernel, rfl, ⟨by decide +kernel, by decide +kernel, by decide +kernel⟩, kX3_write, by decide⟩
theorem oX3_marked : am_MOK mX3_marked := ⟨q743, by decide +kernel, rfl, ⟨by decide +kernel, by decide +kernel, by decide +kernel⟩, kX3_marked, by decide⟩
theorem oX3_only : am_MOK mX3_only := ⟨q751, by decide +kernel, rfl, ⟨by decide +kernel, by decide +kernel, by decide +kernel⟩, kX3_only, by decide⟩
theorem oX3_pairs : am_MOK mX3_pairs := ⟨q755, by decide +kernel, rfl, ⟨by decide +kernel, by decide +kernel, by decide +kernel⟩, kX3_pairs, by decide⟩
theorem oX3_apply : am_MOK mX3_apply := ⟨q759, by decide +kernel, rfl, ⟨by decide +kernel, by decide +kernel, by decide +kernel⟩, kX3_apply, by decide⟩
theorem oX3_groups : am_MOK mX3_groups := ⟨q771, by decide +kernel, rfl, ⟨by decide +kernel, by decide +kernel, by decide +kernel⟩, kX3_groups, by decide⟩
theorem oX4_init : am_MOK mX4_init := ⟨q222, by decide +kernel, rfl, ⟨by decide +kernel, by decide +kernel, by decide +kernel⟩, kX4_init, by decide⟩
theorem oX5_init : am_MOK mX5_init := ⟨q268, by decide +kernel, rfl, ⟨by decide +kernel, by decide +kernel, by decide +kernel⟩, kX5_init, by decide⟩
theorem oX5_run : am_MOK mX5_run := ⟨q775, by decide +kernel, rfl, ⟨by decide +kernel, by decide +kernel, by decide +kernel⟩, kX5_run, by decide⟩
theorem oX5_need : am_MOK mX5_need := ⟨q779, by decide +kernel, rfl, ⟨by decide +kernel, by decide +kernel, by decide +kernel⟩, kX5_need, by decide⟩
theorem oX5_step : am_MOK mX5_step := ⟨q783, by decide +kernel, rfl, ⟨by decide +kernel, by decide +kernel, by decide +kernel⟩, kX5_step, by decide⟩
theorem oX5_lay : am_MOK mX5_lay := ⟨q787, by decide +kernel, rfl, ⟨by decide +kernel, by decide +kernel, by decide +kernel⟩, kX5_lay, by decide⟩
theorem oX5_cross : am_MOK mX5_cross := ⟨q794, by decide +kernel, rfl, ⟨by decide +kernel, by decide +kernel, by decide +kernel⟩, kX5_cross, by decide⟩
theorem oX5_copy : am_MOK mX5_copy := ⟨q798, by decide +kernel, rfl, ⟨by decide +kernel, by decide +kernel, by decide +kernel⟩, kX5_copy, by decide⟩
theorem oX5_at : am_MOK mX5_at := ⟨q802, by decide +kernel, rfl, ⟨by decide +kernel, by decide +kernel, by decide +kernel⟩, kX5_at, by decide⟩
theorem oX5_select : am_MOK mX5_select := ⟨q806, by decide +kernel, rfl, ⟨by decide +kernel, by decide +kernel, by decide +kernel⟩, kX5_select, by decide⟩
theorem oX5_reckon : am_MOK mX5_reckon := ⟨q810, by decide +kernel, rfl, ⟨by decide +kernel, by decide +kernel, by decide +kernel⟩, kX5_reckon, by decide⟩
theorem oX5_extend : am_MOK mX5_extend := ⟨q834, by decide +kernel, rfl, ⟨by decide +kernel, by decide +kernel, by decide +kernel⟩, kX5_extend, by decide⟩
theorem oX5_put : am_MOK mX5_put := ⟨q838, by decide +kernel, rfl, ⟨by decide +kernel, by decide +kernel, by decide +kernel⟩, kX5_put, by decide⟩
theorem oX5_pick : am_MOK mX5_pick := ⟨q842, by decide +kernel, rfl, ⟨by decide +kernel, by decide +kernel, by decide +kernel⟩, kX5_pick, by decide⟩
theorem oX5_join : am_MOK mX5_join := ⟨q846, by decide +kernel, rfl, ⟨by decide +kernel, by decide +kernel, by decide +kernel⟩, kX5_join, by decide⟩
theorem oX5_copyAll : am_MOK mX5_copyAll := ⟨q871, by decide +kernel, rfl, ⟨by decide +kernel, by decide +kernel, by decide +kernel⟩, kX5_copyAll, by decide⟩
theorem oX5_apart : am_MOK mX5_apart := ⟨q875, by decide +kernel, rfl, ⟨by decide +kernel, by decide +kernel, by decide +kernel⟩, kX5_apart, by decide⟩
theorem oX5_unique : am_MOK mX5_unique := ⟨q879, by decide +kernel, rfl, ⟨by decide +kernel, by decide +kernel, by decide +kernel⟩, kX5_unique, by decide⟩
theorem oX5_gather : am_MOK mX5_gather := ⟨q883, by decide +kernel, rfl, ⟨by decide +kernel, by decide +kernel, by decide +kernel⟩, kX5_gather, by decide⟩
theorem oX5_folded : am_MOK mX5_folded := ⟨q888, by decide +kernel, rfl, ⟨by decide +kernel, by decide +kernel, by decide +kernel⟩, kX5_folded, by decide⟩
theorem oX5_top : am_MOK mX5_top := ⟨q892, by decide +kernel, rfl, ⟨by decide +kernel, by decide +kernel, by decide +kernel⟩, kX5_top, by decide⟩
theorem oX5_sort : am_MOK mX5_sort := ⟨q896, by decide +kernel, rfl, ⟨by decide +kernel, by decide +kernel, by decide +kernel⟩, kX5_sort, by decide⟩
theorem oX5_merge : am_MOK mX5_merge := ⟨q903, by decide +kernel, rfl, ⟨by decide +kernel, by decide +kernel, by decide +kernel⟩, kX5_merge, by decide⟩
theorem oX5_isBefore : am_MOK mX5_isBefore := ⟨q907, by decide +kernel, rfl, ⟨by decide +kernel, by decide +kernel, by decide +kernel⟩, kX5_isBefore, by decide⟩
theorem oX5_tidy : am_MOK mX5_tidy := ⟨q911, by decide +kernel, rfl, ⟨by decide +kernel, by decide +kernel, by decide +kernel⟩, kX5_tidy, by decide⟩
theorem oX5_cell : am_MOK mX5_cell := ⟨q916, by decide +kernel, rfl, ⟨by decide +kernel, by decide +kernel, by decide +kernel⟩, kX5_cell, by decide⟩
theorem oX6_init : am_MOK mX6_init := ⟨q274, by decide +kernel, rfl, ⟨by decide +kernel, by decide +kernel, by decide +kernel⟩, kX6_init, by decide⟩
theorem oX6_run : am_MOK mX6_run := ⟨q814, by decide +kernel, rfl, ⟨by decide +kernel, by decide +kernel, by decide +kernel⟩, kX6_run, by decide⟩
theorem oX6_asTruth : am_MOK mX6_asTruth := ⟨q818, by decide +kernel, rfl, ⟨by decide +kernel, by decide +kernel, by decide +kernel⟩, kX6_asTruth, by decide⟩
theorem oX6_test : am_MOK mX6_test := ⟨q821, by decide +kernel, rfl, ⟨by decide +kernel, by decide +kernel, by decide +kernel⟩, kX6_test, by decide⟩
theorem oX6_compare : am_MOK mX6_compare := ⟨q824, by decide +kernel, rfl, ⟨by decide +kernel, by decide +kernel, by decide +kernel⟩, kX6_compare, by decide⟩
theorem oX6_logic : am_MOK mX6_logic := ⟨q827, by decide +kernel, rfl, ⟨by decide +kernel, by decide +kernel, by decide +kernel⟩, kX6_logic, by decide⟩
theorem oX6_reckon : am_MOK mX6_reckon := ⟨q830, by decide +kernel, rfl, ⟨by decide +kernel, by decide +kernel, by decide +kernel⟩, kX6_reckon, by decide⟩
theorem oX7_init : am_MOK mX7_init := ⟨q284, by decide +kernel, rfl, ⟨by decide +kernel, by decide +kernel, by decide +kernel⟩, kX7_init, by decide⟩
theorem oX7_begin : am_MOK mX7_begin := ⟨q850, by decide +kernel, rfl, ⟨by decide +kernel, by decide +kernel, by decide +kernel⟩, kX7_begin, by decide⟩
theorem oX7_add : am_MOK mX7_add := ⟨q854, by decide +kernel, rfl, ⟨by decide +kernel, by decide +kernel, by decide +kernel⟩, kX7_add, by decide⟩
theorem oX7_find : am_MOK mX7_find := ⟨q858, by decide +kernel, rfl, ⟨by decide +kernel, by decide +kernel, by decide +kernel⟩, kX7_find, by decide⟩
theorem oX7_hash : am_MOK mX7_hash := ⟨q862, by decide +kernel, rfl, ⟨by decide +kernel, by decide +kernel, by decide +kernel⟩, kX7_hash, by decide⟩
theorem oX7_isKey : am_MOK mX7_isKey := ⟨q866, by decide +kernel, rfl, ⟨by decide +kernel, by decide +kernel, by decide +kernel⟩, kX7_isKey, by decide⟩
theorem oX8_init : am_MOK mX8_init := ⟨q930, by decide +kernel, rfl, ⟨by decide +kernel, by decide +kernel, by decide +kernel⟩, kX8_init, by decide⟩
theorem oX8_table : am_MOK mX8_table := ⟨q1005, by decide +kernel, rfl, ⟨by decide +kernel, by decide +kernel, by decide +kernel⟩, kX8_table, by decide⟩
theorem oX8_isIn : am_MOK mX8_isIn := ⟨q1008, by decide +kernel, rfl, ⟨by decide +kernel, by decide +kernel, by decide +kernel⟩, kX8_isIn, by decide⟩
theorem oX8_row : am_MOK mX8_row := ⟨q1012, by decide +kernel, rfl, ⟨by decide +kernel, by decide +kernel, by decide +kernel⟩, kX8_row, by decide⟩
theorem oX8_empty : am_MOK mX8_empty := ⟨q1016, by decide +kernel, rfl, ⟨by decide +kernel, by decide +kernel, by decide +kernel⟩, kX8_empty, by decide⟩
theorem oX8_constant : am_MOK mX8_constant := ⟨q1020, by decide +kernel, rfl, ⟨by decide +kernel, by decide +kernel, by decide +kernel⟩, kX8_constant, by decide⟩
theorem oX8_make : am_MOK mX8_make := ⟨q1024, by decide +kernel, rfl, ⟨by decide +kernel, by decide +kernel, by decide +kernel⟩, kX8_make, by decide⟩
theorem oX8_column : am_MOK mX8_column := ⟨q1028, by decide +kernel, rfl, ⟨by decide +kernel, by decide +kernel, by decide +kernel⟩, kX8_column, by decide⟩
theorem oX8_reckon : am_MOK mX8_reckon := ⟨q1032, by decide +kernel, rfl, ⟨by decide +kernel, by decide +kernel, by decide +kernel⟩, kX8_reckon, by decide⟩
theorem oX8_is : am_MOK mX8_is := ⟨q1036, by decide +kernel, rfl, ⟨by decide +kernel, by decide +kernel, by decide +kernel⟩, kX8_is, by decide⟩
theorem oX8_looksAs : am_MOK mX8_looksAs := ⟨q1040, by decide +kernel, rfl, ⟨by decide +kernel, by decide +kernel, by decide +kernel⟩, kX8_looksAs, by decide⟩
theorem oX8_number : am_MOK mX8_number := ⟨q1044, by decide +kernel, rfl, ⟨by decide +kernel, by decide +kernel, by decide +kernel⟩, kX8_number, by decide⟩
theorem oX8_fold : am_MOK mX8_fold := ⟨q1048, by decide +kernel, rfl, ⟨by decide +kernel, by decide +kernel, by decide +kernel⟩, kX8_fold, by decide⟩
theorem oX8_compare : am_MOK mX8_compare := ⟨q1052, by decide +kernel, rfl, ⟨by decide +kernel, by decide +kernel, by decide +kernel⟩, kX8_compare, by decide⟩
theorem oX8_isNothing : am_MOK mX8_isNothing := ⟨q1056, by decide +kernel, rfl, ⟨by decide +kernel, by decide +kernel, by decide +kernel⟩, kX8_isNothing, by decide⟩
theorem oX8_logic : am_MOK mX8_logic := ⟨q1060, by decide +kernel, rfl, ⟨by decide +kernel, by decide +kernel, by decide +kernel⟩, kX8_logic, by decide⟩
theorem oX8_has : am_MOK mX8_has := ⟨q1064, by decide +kernel, rfl, ⟨by decide +kernel, by decide +kernel, by decide +kernel⟩, kX8_has, by decide⟩
theorem oX8_some : am_MOK mX8_some := ⟨q1068, by decide +kernel, rfl, ⟨by decide +kernel, by decide +kernel, by decide +kernel⟩, kX8_some, by decide⟩
theorem oX8_quantity : am_MOK mX8_quantity := ⟨q1072, by decide +kernel, rfl, ⟨by decide +kernel, by decide +kernel, by decide +kernel⟩, kX8_quantity, by decide⟩
theorem oX8_each : am_MOK mX8_each := ⟨q1076, by decide +kernel, rfl, ⟨by decide +kernel, by decide +kernel, by decide +kernel⟩, kX8_each, by decide⟩
theorem oX8_scan : am_MOK mX8_scan := ⟨q1080, by decide +kernel, rfl, ⟨by decide +kernel, by decide +kernel, by decide +kernel⟩, kX8_scan, by decide⟩
theorem oX8_filter : am_MOK mX8_filter := ⟨q1084, by decide +kernel, rfl, ⟨by decide +kernel, by decide +kernel, by decide +kernel⟩, kX8_filter, by decide⟩
theorem oX8_fits : am_MOK mX8_fits := ⟨q1088, by decide +kernel, rfl, ⟨by decide +kernel, by decide +kernel, by decide +kernel⟩, kX8_fits, by decide⟩
theorem oX8_looksWithin : am_MOK mX8_looksWithin := ⟨q1092, by decide +kernel, rfl, ⟨by decide +kernel, by decide +kernel, by decide +kernel⟩, kX8_looksWithin, by decide⟩
theorem oX8_more : am_MOK mX8_more := ⟨q1096, by decide +kernel, rfl, ⟨by decide +kernel, by decide +kernel, by decide +kernel⟩, kX8_more, by decide⟩
theorem oX8_only : am_MOK mX8_only := ⟨q1100, by decide +kernel, rfl, ⟨by decide +kernel, by decide +kernel, by decide +kernel⟩, kX8_only, by decide⟩
theorem oX8_pairs : am_MOK mX8_pairs := ⟨q1104, by decide +kernel, rfl, ⟨by decide +kernel, by decide +kernel, by decide +kernel⟩, kX8_pairs, by decide⟩
theorem oX8_apply : am_MOK mX8_apply := ⟨q1108, by decide +kernel, rfl, ⟨by decide +kernel, by decide +kernel, by decide +kernel⟩, kX8_apply, by decide⟩
theorem oX8_both : am_MOK mX8_both := ⟨q1112, by decide +kernel, rfl, ⟨by decide +kernel, by decide +kernel, by decide +kernel⟩, kX8_both, by decide⟩
theorem oX8_once : am_MOK mX8_once := ⟨q1116, by decide +kernel, rfl, ⟨by decide +kernel, by decide +kernel, by decide +kernel⟩, kX8_once, by decide⟩
theorem oX8_first : am_MOK mX8_first := ⟨q1120, by decide +kernel, rfl, ⟨by decide +kernel, by decide +kernel, by decide +kernel⟩, kX8_first, by decide⟩
theorem oX8_groups : am_MOK mX8_groups := ⟨q1124, by decide +kernel, rfl, ⟨by decide +kernel, by decide +kernel, by decide +kernel⟩, kX8_groups, by decide⟩
theorem oX8_bits : am_MOK mX8_bits := ⟨q1127, by decide +kernel, rfl, ⟨by decide +kernel, by decide +kernel, by decide +kernel⟩, kX8_bits, by decide⟩
theorem oX8_forget : am_MOK mX8_forget := ⟨q1131, by decide +kernel, rfl, ⟨by decide +kernel, by decide +kernel, by decide +kernel⟩, kX8_forget, by decide⟩
theorem oX8_told : am_MOK mX8_told := ⟨q1135, by decide +kernel, rfl, ⟨by decide +kernel, by decide +kernel, by decide +kernel⟩, kX8_told, by decide⟩
theorem oX8_measure : am_MOK mX8_measure := ⟨q1139, by decide +kernel, rfl, ⟨by decide +kernel, by decide +kernel, by decide +kernel⟩, kX8_measure, by decide⟩
theorem oX8_sizeOf : am_MOK mX8_sizeOf := ⟨q1143, by decide +kernel, rfl, ⟨by decide +kernel, by decide +kernel, by decide +kernel⟩, kX8_sizeOf, by decide⟩
theorem oX8_cut : am_MOK mX8_cut := ⟨q1146, by decide +kernel, rfl, ⟨by decide +kernel, by decide +kernel, by decide +kernel⟩, kX8_cut, by decide⟩
theorem oX8_costOf : am_MOK mX8_costOf := ⟨q1151, by decide +kernel, rfl, ⟨by decide +kernel, by decide +kernel, by decide +kernel⟩, kX8_costOf, by decide⟩
theorem oX8_run : am_MOK mX8_run := ⟨q1155, by decide +kernel, rfl, ⟨by decide +kernel, by decide +kernel, by decide +kernel⟩, kX8_run, by decide⟩
theorem oX8_bag : am_MOK mX8_bag := ⟨q1160, by decide +kernel, rfl, ⟨by decide +kernel, by decide +kernel, by decide +kernel⟩, kX8_bag, by decide⟩
theorem oX8_scanned : am_MOK mX8_scanned := ⟨q1164, by decide +kernel, rfl, ⟨by decide +kernel, by decide +kernel, by decide +kernel⟩, kX8_scanned, by decide⟩
theorem oX8_filtered : am_MOK mX8_filtered := ⟨q1168, by decide +kernel, rfl, ⟨by decide +kernel, by decide +kernel, by decide +kernel⟩, kX8_filtered, by decide⟩
theorem oX8_enter : am_MOK mX8_enter := ⟨q1172, by decide +kernel, rfl, ⟨by decide +kernel, by decide +kernel, by decide +kernel⟩, kX8_enter, by decide⟩
theorem oX8_truth : am_MOK mX8_truth := ⟨q1176, by decide +kernel, rfl, ⟨by decide +kernel, by decide +kernel, by decide +kernel⟩, kX8_truth, by decide⟩
theorem oX8_value : am_MOK mX8_value := ⟨q1180, by decide +kernel, rfl, ⟨by decide +kernel, by decide +kernel, by decide +kernel⟩, kX8_value, by decide⟩
theorem oX8_folded : am_MOK mX8_folded := ⟨q1185, by decide +kernel, rfl, ⟨by decide +kernel, by decide +kernel, by decide +kernel⟩, kX8_folded, by decide⟩
theorem oX8_areAlike : am_MOK mX8_areAlike := ⟨q1189, by decide +kernel, rfl, ⟨by decide +kernel, by decide +kernel, by decide +kernel⟩, kX8_areAlike, by decide⟩
theorem oX8_compared : am_MOK mX8_compared := ⟨q1192, by decide +kernel, rfl, ⟨by decide +kernel, by decide +kernel, by decide +kernel⟩, kX8_compared, by decide⟩
theorem oX8_truthOf : am_MOK mX8_truthOf := ⟨q1195, by decide +kernel, rfl, ⟨by decide +kernel, by decide +kernel, by decide +kernel⟩, kX8_truthOf, by decide⟩
theorem oX8_quantified : am_MOK mX8_quantified := ⟨q1199, by decide +kernel, rfl, ⟨by decide +kernel, by decide +kernel, by decide +kernel⟩, kX8_quantified, by decide⟩
theorem oX8_copy : am_MOK mX8_copy := ⟨q1203, by decide +kernel, rfl, ⟨by decide +kernel, by decide +kernel, by decide +kernel⟩, kX8_copy, by decide⟩
theorem oX8_widened : am_MOK mX8_widened := ⟨q1208, by decide +kernel, rfl, ⟨by decide +kernel, by decide +kernel, by decide +kernel⟩, kX8_widened, by decide⟩
theorem oX8_settle : am_MOK mX8_settle := ⟨q1212, by decide +kernel, rfl, ⟨by decide +kernel, by decide +kernel, by decide +kernel⟩, kX8_settle, by decide⟩
theorem oX8_chosen : am_MOK mX8_chosen := ⟨q1216, by decide +kernel, rfl, ⟨by decide +kernel, by decide +kernel, by decide +kernel⟩, kX8_chosen, by decide⟩
theorem oX8_paired : am_MOK mX8_paired := ⟨q1220, by decide +kernel, rfl, ⟨by decide +kernel, by decide +kernel, by decide +kernel⟩, kX8_paired, by decide⟩
theorem oX8_applied : am_MOK mX8_applied := ⟨q1224, by decide +kernel, rfl, ⟨by decide +kernel, by decide +kernel, by decide +kernel⟩, kX8_applied, by decide⟩
theorem oX8_bothOf : am_MOK mX8_bothOf := ⟨q1228, by decide +kernel, rfl, ⟨by decide +kernel, by decide +kernel, by decide +kernel⟩, kX8_bothOf, by decide⟩
theorem oX8_exchange : am_MOK mX8_exchange := ⟨q1232, by decide +kernel, rfl, ⟨by decide +kernel, by decide +kernel, by decide +kernel⟩, kX8_exchange, by decide⟩
theorem oX8_onceOf : am_MOK mX8_onceOf := ⟨q1236, by decide +kernel, rfl, ⟨by decide +kernel, by decide +kernel, by decide +kernel⟩, kX8_onceOf, by decide⟩
theorem oX8_firstOf : am_MOK mX8_firstOf := ⟨q1240, by decide +kernel, rfl, ⟨by decide +kernel, by decide +kernel, by decide +kernel⟩, kX8_firstOf, by decide⟩
theorem oX8_order : am_MOK mX8_order := ⟨q1244, by decide +kernel, rfl, ⟨by decide +kernel, by decide +kernel, by decide +kernel⟩, kX8_order, by decide⟩
theorem oX8_isBefore : am_MOK mX8_isBefore := ⟨q1248, by decide +kernel, rfl, ⟨by decide +kernel, by decide +kernel, by decide +kernel⟩, kX8_isBefore, by decide⟩
theorem oX8_grouped : am_MOK mX8_grouped := ⟨q1252, by decide +kernel, rfl, ⟨by decide +kernel, by decide +kernel, by decide +kernel⟩, kX8_grouped, by decide⟩
theorem oX8_cell : am_MOK mX8_cell := ⟨q1256, by decide +kernel, rfl, ⟨by decide +kernel, by decide +kernel, by decide +kernel⟩, kX8_cell, by decide⟩
theorem oX8_count : am_MOK mX8_count := ⟨q1261, by decide +kernel, rfl, ⟨by decide +kernel, by decide +kernel, by decide +kernel⟩, kX8_count, by decide⟩
theorem oX9_init : am_MOK mX9_init := ⟨q425, by decide +kernel, rfl, ⟨by decide +kernel, by decide +kernel, by decide +kernel⟩, kX9_init, by decide⟩
def am_FP (ci : Nat) (e : Nat × Nat × Nat) : Prop := Cond.fieldLink (am_cn ci) e.1 (am_cn e.2.1) ((am_T e.2.1) e.2.2).2.1 ((am_T e.2.1) e.2.2).2.2.1 ∈ lw_all ∧ e.2.1 < 10 ∧ e.2.2 < am_nf e.2.1
def am_MP (ci : Nat) (e : Nat × Nat × am_MR) : Prop := match e.2.1 with
  | 0 => Cond.methodLink (am_cn ci) e.1 e.2.2.1 ∈ lw_all ∧ Cond.instanceMethod e.2.2.1 ∈ lw_all ∧ Cond.selects (am_cn e.2.2.2.2.2.2.1) e.2.2.1 e.2.2.1 ∈ lw_all ∧ Cond.initialized (am_cn e.2.2.2.2.2.2.1) ∈ lw_all ∧ am_MOK e.2.2
  | 1 => Cond.methodLink (am_cn ci) e.1 e.2.2.1 ∈ lw_all ∧ Cond.static e.2.2.1 ∈ lw_all ∧ Cond.initialized e.2.2.1.cls ∈ lw_all ∧ am_MOK e.2.2
  | 2 => Cond.methodLink (am_cn ci) e.1 e.2.2.1 ∈ lw_all ∧ Cond.instanceMethod e.2.2.1 ∈ lw_all ∧ Cond.initialized e.2.2.1.cls ∈ lw_all ∧ e.2.2.1.name = "<init>" ∧ am_MOK e.2.2
  | 3 => Cond.methodLinkNest (am_cn ci) e.1 e.2.2.1 "ApplyFree" ∈ lw_tbl ∧ Cond.instanceMethod e.2.2.1 ∈ lw_all ∧ Cond.initialized e.2.2.1.cls ∈ lw_all ∧ e.2.2.1.name = "<init>" ∧ am_MOK e.2.2
  | 4 => Cond.methodLink (am_cn ci) e.1 Lib.objectInit ∈ lw_all
  | 5 => Cond.methodLink (am_cn ci) e.1 arraycopyName ∈ lw_all
  | 6 => Cond.methodLink (am_cn ci) e.1 Lib.Math.min.name ∈ lw_all ∧ Cond.static Lib.Math.min.name ∈ lw_all ∧ Cond.initialized "java/lang/Math" ∈ lw_all ∧ Cond.code Lib.Math.min.name Lib.Math.min.code 2 (some .int) ∈ lw_all
  | 7 => Cond.methodLink (am_cn ci) e.1 Lib.MathLoose.max_long.x ∈ lw_all ∧ Cond.static Lib.MathLoose.max_long.x ∈ lw_all ∧ Cond.initialized "java/lang/Math" ∈ lw_all ∧ Cond.code Lib.MathLoose.max_long.x Lib.MathLoose.max_long.code 4 (some .long) ∈ lw_all
  | _ => Cond.methodLink (am_cn ci) e.1 Lib.MathLoose.min_long.x ∈ lw_all ∧ Cond.static Lib.MathLoose.min_long.x ∈ lw_all ∧ Cond.initialized "java/lang/Math" ∈ lw_all ∧ Cond.code Lib.MathLoose.min_long.x Lib.MathLoose.min_long.code 4 (some .long) ∈ lw_all
def am_KP (ci : Nat) (e : Nat × Int32) : Prop := Cond.constant (am_cn ci) e.1 e.2 ∈ lw_all
def am_JP (ci : Nat) (e : Nat × Int64) : Prop := Cond.constantLong (am_cn ci) e.1 e.2 ∈ lw_all
def am_CP (ci : Nat) (e : Nat × Nat) : Prop := Cond.classLink (am_cn ci) e.1 (am_cn e.2) ∈ lw_all ∧ e.2 < 10
def am_fl_0 : List (Nat × Nat × Nat) := [(11, 0, 0), (20, 0, 2), (27, 0, 3), (36, 0, 4), (45, 0, 5), (49, 0, 6), (53, 0, 1), (68, 9, 2), (71, 9, 0), (74, 9, 1), (85, 1, 5), (88, 1, 8), (105, 1, 6), (109, 1, 7), (128, 1, 11), (131, 1, 1), (154, 5, 7), (156, 0, 7), (159, 5, 8), (161, 0, 8)]
theorem am_fl_0_ok : ∀ e ∈ am_fl_0, am_FP 0 e := List.forall_mem_cons.mpr ⟨⟨q387, by decide, by decide⟩, List.forall_mem_cons.mpr ⟨⟨q389, by decide, by decide⟩, List.forall_mem_cons.mpr ⟨⟨q390, by decide, by decide⟩, List.forall_mem_cons.mpr ⟨⟨q391, by decide, by decide⟩, List.forall_mem_cons.mpr ⟨⟨q392, by decide, by decide⟩, List.forall_mem_cons.mpr ⟨⟨q393, by decide, by decide⟩, List.forall_mem_cons.mpr ⟨⟨q388, by decide, by decide⟩, List.forall_mem_cons.mpr ⟨⟨q433, by decide, by decide⟩, List.forall_mem_cons.mpr ⟨⟨q428, by decide, by decide⟩, List.forall_mem_cons.mpr ⟨⟨q431, by decide, by decide⟩, List.forall_mem_cons.mpr ⟨⟨q120, by decide, by decide⟩, List.forall_mem_cons.mpr ⟨⟨q129, by decide, by decide⟩, List.forall_mem_cons.mpr ⟨⟨q123, by decide, by decide⟩, List.forall_mem_cons.mpr ⟨⟨q126, by decide, by decide⟩, List.forall_mem_cons.mpr ⟨⟨q133, by decide, by decide⟩, List.forall_mem_cons.mpr ⟨⟨q111, by decide, by decide⟩, List.forall_mem_cons.mpr ⟨⟨q340, by decide, by decide⟩, List.forall_mem_cons.mpr ⟨⟨q394, by decide, by decide⟩, List.forall_mem_cons.mpr ⟨⟨q342, by decide, by decide⟩, List.forall_mem_cons.mpr ⟨⟨q395, by decide, by decide⟩, fun _ h => absurd h List.not_mem_nil⟩⟩⟩⟩⟩⟩⟩⟩⟩⟩⟩⟩⟩⟩⟩⟩⟩⟩⟩⟩
def am_fl_1 : List (Nat × Nat × Nat) := [(9, 1, 1), (15, 1, 2), (18, 1, 3), (22, 1, 4), (25, 1, 5), (29, 1, 6), (32, 1, 7), (35, 1, 8), (38, 1, 9), (41, 1, 10), (44, 1, 0), (48, 1, 11), (81, 9, 2)]
theorem am_fl_1_ok : ∀ e ∈ am_fl_1, am_FP 1 e := List.forall_mem_cons.mpr ⟨⟨q109, by decide, by decide⟩, List.forall_mem_cons.mpr ⟨⟨q112, by decide, by decide⟩, List.forall_mem_cons.mpr ⟨⟨q114, by decide, by decide⟩, List.forall_mem_cons.mpr ⟨⟨q116, by decide, by decide⟩, List.forall_mem_cons.mpr ⟨⟨q118, by decide, by decide⟩, List.forall_mem_cons.mpr ⟨⟨q121, by decide, by decide⟩, List.forall_mem_cons.mpr ⟨⟨q124, by decide, by decide⟩, List.forall_mem_cons.mpr ⟨⟨q127, by decide, by decide⟩, List.forall_mem_cons.mpr ⟨⟨q130, by decide, by decide⟩, List.forall_mem_cons.mpr ⟨⟨q131, by decide, by decide⟩, List.forall_mem_cons.mpr ⟨⟨q108, by decide, by decide⟩, List.forall_mem_cons.mpr ⟨⟨q132, by decide, by decide⟩, List.forall_mem_cons.mpr ⟨⟨q435, by decide, by decide⟩, fun _ h => absurd h List.not_mem_nil⟩⟩⟩⟩⟩⟩⟩⟩⟩⟩⟩⟩⟩
def am_fl_2 : List (Nat × Nat × Nat) := [(12, 2, 1), (16, 2, 2), (20, 2, 3), (23, 2, 4), (26, 2, 5), (29, 2, 6), (32, 2, 7), (36, 2, 8), (39, 2, 0), (43, 2, 9)]
theorem am_fl_2_ok : ∀ e ∈ am_fl_2, am_FP 2 e := List.forall_mem_cons.mpr ⟨⟨q172, by decide, by decide⟩, List.forall_mem_cons.mpr ⟨⟨q174, by decide, by decide⟩, List.forall_mem_cons.mpr ⟨⟨q176, by decide, by decide⟩, List.forall_mem_cons.mpr ⟨⟨q178, by decide, by decide⟩, List.forall_mem_cons.mpr ⟨⟨q180, by decide, by decide⟩, List.forall_mem_cons.mpr ⟨⟨q182, by decide, by decide⟩, List.forall_mem_cons.mpr ⟨⟨q184, by decide, by decide⟩, List.forall_mem_cons.mpr ⟨⟨q186, by decide, by decide⟩, List.forall_mem_cons.mpr ⟨⟨q170, by decide, by decide⟩, List.forall_mem_cons.mpr ⟨⟨q189, by decide, by decide⟩, fun _ h => absurd h List.not_mem_nil⟩⟩⟩⟩⟩⟩⟩⟩⟩⟩
def am_fl_3 : List (Nat × Nat × Nat) := [(12, 3, 2), (18, 3, 3), (22, 3, 5), (26, 3, 0), (30, 3, 1), (39, 3, 4), (43, 3, 6), (46, 4, 1), (52, 4, 0), (59, 1, 3), (65, 1, 4), (68, 1, 8), (75, 1, 1), (79, 1, 5), (97, 1, 2), (119, 1, 6), (143, 2, 9), (146, 2, 8), (150, 4, 2), (153, 4, 3), (156, 1, 7), (171, 3, 7)]
theorem am_fl_3_ok : ∀ e ∈ am_fl_3, am_FP 3 e := List.forall_mem_cons.mpr ⟨⟨q241, by decide, by decide⟩, List.forall_mem_cons.mpr ⟨⟨q242, by decide, by decide⟩, List.forall_mem_cons.mpr ⟨⟨q244, by decide, by decide⟩, List.forall_mem_cons.mpr ⟨⟨q239, by decide, by decide⟩, List.forall_mem_cons.mpr ⟨⟨q240, by decide, by decide⟩, List.forall_mem_cons.mpr ⟨⟨q243, by decide, by decide⟩, List.forall_mem_cons.mpr ⟨⟨q245, by decide, by decide⟩, List.forall_mem_cons.mpr ⟨⟨q225, by decide, by decide⟩, List.forall_mem_cons.mpr ⟨⟨q224, by decide, by decide⟩, List.forall_mem_cons.mpr ⟨⟨q115, by decide, by decide⟩, List.forall_mem_cons.mpr ⟨⟨q117, by decide, by decide⟩, List.forall_mem_cons.mpr ⟨⟨q128, by decide, by decide⟩, List.forall_mem_cons.mpr ⟨⟨q110, by decide, by decide⟩, List.forall_mem_cons.mpr ⟨⟨q119, by decide, by decide⟩, List.forall_mem_cons.mpr ⟨⟨q113, by decide, by decide⟩, List.forall_mem_cons.mpr ⟨⟨q122, by decide, by decide⟩, List.forall_mem_cons.mpr ⟨⟨q190, by decide, by decide⟩, List.forall_mem_cons.mpr ⟨⟨q187, by decide, by decide⟩, List.forall_mem_cons.mpr ⟨⟨q227, by decide, by decide⟩, List.forall_mem_cons.mpr ⟨⟨q228, by decide, by decide⟩, List.forall_mem_cons.mpr ⟨⟨q125, by decide, by decide⟩, List.forall_mem_cons.mpr ⟨⟨q246, by decide, by decide⟩, fun _ h => absurd h List.not_mem_nil⟩⟩⟩⟩⟩⟩⟩⟩⟩⟩⟩⟩⟩⟩⟩⟩⟩⟩⟩⟩⟩⟩
def am_fl_4 : List (Nat × Nat × Nat) := [(9, 4, 2)]
theorem am_fl_4_ok : ∀ e ∈ am_fl_4, am_FP 4 e := List.forall_mem_cons.mpr ⟨⟨q226, by decide, by decide⟩, fun _ h => absurd h List.not_mem_nil⟩
def am_fl_5 : List (Nat × Nat × Nat) := [(12, 5, 2), (21, 5, 3), (26, 5, 4), (33, 5, 6), (36, 5, 7), (39, 5, 8), (42, 5, 9), (45, 5, 10), (48, 5, 12), (51, 5, 13), (54, 5, 14), (57, 5, 15), (60, 5, 16), (64, 5, 0), (68, 5, 1), (72, 5, 5), (76, 5, 11), (79, 2, 0), (82, 2, 2), (89, 2, 3), (105, 2, 1), (109, 2, 6), (153, 9, 0), (158, 9, 2), (160, 9, 1), (161, 2, 8), (164, 2, 4), (167, 2, 5), (193, 7, 2), (196, 7, 5), (197, 2, 7), (200, 7, 4), (203, 7, 6)]
theorem am_fl_5_ok : ∀ e ∈ am_fl_5, am_FP 5 e := List.forall_mem_cons.mpr ⟨⟨q334, by decide, by decide⟩, List.forall_mem_cons.mpr ⟨⟨q335, by decide, by decide⟩, List.forall_mem_cons.mpr ⟨⟨q336, by decide, by decide⟩, List.forall_mem_cons.mpr ⟨⟨q338, by decide, by decide⟩, List.forall_mem_cons.mpr ⟨⟨q339, by decide, by decide⟩, List.forall_mem_cons.mpr ⟨⟨q341, by decide, by decide⟩, List.forall_mem_cons.mpr ⟨⟨q343, by decide, by decide⟩, List.forall_mem_cons.mpr ⟨⟨q344, by decide, by decide⟩, List.forall_mem_cons.mpr ⟨⟨q346, by decide, by decide⟩, List.forall_mem_cons.mpr ⟨⟨q347, by decide, by decide⟩, List.forall_mem_cons.mpr ⟨⟨q348, by decide, by decide⟩, List.forall_mem_cons.mpr ⟨⟨q349, by decide, by decide⟩, List.forall_mem_cons.mpr ⟨⟨q350, by decide, by decide⟩, List.forall_mem_cons.mpr ⟨⟨q332, by decide, by decide⟩, List.forall_mem_cons.mpr ⟨⟨q333, by decide, by decide⟩, List.forall_mem_cons.mpr ⟨⟨q337, by decide, by decide⟩, List.forall_mem_cons.mpr ⟨⟨q345, by decide, by decide⟩, List.forall_mem_cons.mpr ⟨⟨q171, by decide, by decide⟩, List.forall_mem_cons.mpr ⟨⟨q175, by decide, by decide⟩, List.forall_mem_cons.mpr ⟨⟨q177, by decide, by decide⟩, List.forall_mem_cons.mpr ⟨⟨q173, by decide, by decide⟩, List.forall_mem_cons.mpr ⟨⟨q183, by decide, by decide⟩, List.forall_mem_cons.mpr ⟨⟨q429, by decide, by decide⟩, List.forall_mem_cons.mpr ⟨⟨q434, by decide, by decide⟩, List.forall_mem_cons.mpr ⟨⟨q432, by decide, by decide⟩, List.forall_mem_cons.mpr ⟨⟨q188, by decide, by decide⟩, List.forall_mem_cons.mpr ⟨⟨q179, by decide, by decide⟩, List.forall_mem_cons.mpr ⟨⟨q181, by decide, by decide⟩, List.forall_mem_cons.mpr ⟨⟨q289, by decide, by decide⟩, List.forall_mem_cons.mpr ⟨⟨q294, by decide, by decide⟩, List.forall_mem_cons.mpr ⟨⟨q185, by decide, by decide⟩, List.forall_mem_cons.mpr ⟨⟨q292, by decide, by decide⟩, List.forall_mem_cons.mpr ⟨⟨q296, by decide, by decide⟩, fun _ h => absurd h List.not_mem_nil⟩⟩⟩⟩⟩⟩⟩⟩⟩⟩⟩⟩⟩⟩⟩⟩⟩⟩⟩⟩⟩⟩⟩⟩⟩⟩⟩⟩⟩⟩⟩⟩⟩
def am_fl_6 : List (Nat × Nat × Nat) := [(9, 6, 0)]
theorem am_fl_6_ok : ∀ e ∈ am_fl_6, am_FP 6 e := List.forall_mem_cons.mpr ⟨⟨q276, by decide, by decide⟩, fun _ h => absurd h List.not_mem_nil⟩
def am_fl_7 : List (Nat × Nat × Nat) := [(11, 7, 0), (15, 7, 1), (18, 7, 2), (21, 7, 3), (24, 7, 4), (27, 7, 5), (30, 7, 7), (33, 7, 8), (37, 7, 9), (40, 7, 10), (43, 7, 11), (46, 7, 12), (49, 7, 6)]
theorem am_fl_7_ok : ∀ e ∈ am_fl_7, am_FP 7 e := List.forall_mem_cons.mpr ⟨⟨q286, by decide, by decide⟩, List.forall_mem_cons.mpr ⟨⟨q287, by decide, by decide⟩, List.forall_mem_cons.mpr ⟨⟨q288, by decide, by decide⟩, List.forall_mem_cons.mpr ⟨⟨q290, by decide, by decide⟩, List.forall_mem_cons.mpr ⟨⟨q291, by decide, by decide⟩, List.forall_mem_cons.mpr ⟨⟨q293, by decide, by decide⟩, List.forall_mem_cons.mpr ⟨⟨q297, by decide, by decide⟩, List.forall_mem_cons.mpr ⟨⟨q298, by decide, by decide⟩, List.forall_mem_cons.mpr ⟨⟨q299, by decide, by decide⟩, List.forall_mem_cons.mpr ⟨⟨q300, by decide, by decide⟩, List.forall_mem_cons.mpr ⟨⟨q301, by decide, by decide⟩, List.forall_mem_cons.mpr ⟨⟨q302, by decide, by decide⟩, List.forall_mem_cons.mpr ⟨⟨q295, by decide, by decide⟩, fun _ h => absurd h List.not_mem_nil⟩⟩⟩⟩⟩⟩⟩⟩⟩⟩⟩⟩⟩
def am_fl_8 : List (Nat × Nat × Nat) := [(7, 8, 1), (13, 8, 2), (16, 8, 3), (19, 8, 5), (22, 8, 6), (25, 8, 7), (28, 8, 8), (31, 8, 9), (34, 8, 10), (37, 8, 11), (40, 8, 12), (43, 8, 13), (47, 8, 14), (51, 8, 17), (55, 8, 18), (58, 8, 20), (61, 8, 0), (69, 8, 4), (119, 8, 21), (128, 8, 19), (207, 8, 15), (210, 8, 16)]
theorem am_fl_8_ok : ∀ e ∈ am_fl_8, am_FP 8 e := List.forall_mem_cons.mpr ⟨⟨q935, by decide, by decide⟩, List.forall_mem_cons.mpr ⟨⟨q936, by decide, by decide⟩, List.forall_mem_cons.mpr ⟨⟨q937, by decide, by decide⟩, List.forall_mem_cons.mpr ⟨⟨q939, by decide, by decide⟩, List.forall_mem_cons.mpr ⟨⟨q940, by decide, by decide⟩, List.forall_mem_cons.mpr ⟨⟨q941, by decide, by decide⟩, List.forall_mem_cons.mpr ⟨⟨q942, by decide, by decide⟩, List.forall_mem_cons.mpr ⟨⟨q943, by decide, by decide⟩, List.forall_mem_cons.mpr ⟨⟨q944, by decide, by decide⟩, List.forall_mem_cons.mpr ⟨⟨q945, by decide, by decide⟩, List.forall_mem_cons.mpr ⟨⟨q946, by decide, by decide⟩, List.forall_mem_cons.mpr ⟨⟨q947, by decide, by decide⟩, List.forall_mem_cons.mpr ⟨⟨q948, by decide, by decide⟩, List.forall_mem_cons.mpr ⟨⟨q951, by decide, by decide⟩, List.forall_mem_cons.mpr ⟨⟨q952, by decide, by decide⟩, List.forall_mem_cons.mpr ⟨⟨q954, by decide, by decide⟩, List.forall_mem_cons.mpr ⟨⟨q934, by decide, by decide⟩, List.forall_mem_cons.mpr ⟨⟨q938, by decide, by decide⟩, List.forall_mem_cons.mpr ⟨⟨q955, by decide, by decide⟩, List.forall_mem_cons.mpr ⟨⟨q953, by decide, by decide⟩, List.forall_mem_cons.mpr ⟨⟨q949, by decide, by decide⟩, List.forall_mem_cons.mpr ⟨⟨q950, by decide, by decide⟩, fun _ h => absurd h List.not_mem_nil⟩⟩⟩⟩⟩⟩⟩⟩⟩⟩⟩⟩⟩⟩⟩⟩⟩⟩⟩⟩⟩⟩
def am_fl_9 : List (Nat × Nat × Nat) := [(9, 9, 0), (15, 9, 1)]
theorem am_fl_9_ok : ∀ e ∈ am_fl_9, am_FP 9 e := List.forall_mem_cons.mpr ⟨⟨q427, by decide, by decide⟩, List.forall_mem_cons.mpr ⟨⟨q430, by decide, by decide⟩, fun _ h => absurd h List.not_mem_nil⟩⟩
def am_fl_10 : List (Nat × Nat × Nat) := []
theorem am_fl_10_ok : ∀ e ∈ am_fl_10, am_FP 10 e := fun _ h => absurd h List.not_mem_nil
def am_fl_11 : List (Nat × Nat × Nat) := []
theorem am_fl_11_ok : ∀ e ∈ am_fl_11, am_FP 11 e := fun _ h => absurd h List.not_mem_nil
def am_fl_12 : List (Nat × Nat × Nat) := []
theorem am_fl_12_ok : ∀ e ∈ am_fl_12, am_FP 12 e := fun _ h => absurd h List.not_mem_nil
def am_fl : Nat → List (Nat × Nat × Nat)
  | 0 => am_fl_0
  | 1 => am_fl_1
  | 2 => am_fl_2
  | 3 => am_fl_3
  | 4 => am_fl_4
  | 5 => am_fl_5
  | 6 => am_fl_6
  | 7 => am_fl_7
  | 8 => am_fl_8
  | 9 => am_fl_9
  | 10 => am_fl_10
  | 11 => am_fl_11
  | _ => am_fl_12
theorem am_fl_ok : ∀ (c : Nat), c < 13 → ∀ e ∈ am_fl c, am_FP c e
  | 0, _ => am_fl_0_ok
  | 1, _ => am_fl_1_ok
  | 2, _ => am_fl_2_ok
  | 3, _ => am_fl_3_ok
  | 4, _ => am_fl_4_ok
  | 5, _ => am_fl_5_ok
  | 6, _ => am_fl_6_ok
  | 7, _ => am_fl_7_ok
  | 8, _ => am_fl_8_ok
  | 9, _ => am_fl_9_ok
  | 10, _ => am_fl_10_ok
  | 11, _ => am_fl_11_ok
  | 12, _ => am_fl_12_ok
  | n + 13, h => absurd h (by omega)
def am_ml_0 : List (Nat × Nat × am_MR) := [(1, 4, mX6_init), (17, 2, mX1_init), (26, 3, mX2_init), (33, 2, mX3_init), (42, 2, mX5_init), (57, 1, mX0_isIn), (61, 2, mX9_init), (64, 0, mX0_isTable), (77, 0, mX1_hasRoom), (81, 0, mX1_add), (91, 0, mX1_is), (95, 0, mX0_are), (99, 0, mX0_isOne), (102, 0, mX1_hasColumn), (112, 0, mX0_quantified), (116, 0, mX1_fits), (119, 0, mX0_isNarrow), (122, 1, mJ0_bitCount), (134, 1, mX1_sort), (137, 0, mX1_cost), (140, 0, mX1_size), (143, 0, mX1_isBag), (146, 0, mX3_whole), (149, 0, mX5_run), (152, 0, mX5_sort), (164, 0, mX5_cell)]
theorem am_ml_0_ok : ∀ e ∈ am_ml_0, am_MP 0 e := List.forall_mem_cons.mpr ⟨q97, List.forall_mem_cons.mpr ⟨⟨q104, q105, q80, rfl, oX1_init⟩, List.forall_mem_cons.mpr ⟨⟨q164, q165, q81, rfl, oX2_init⟩, List.forall_mem_cons.mpr ⟨⟨q214, q215, q82, rfl, oX3_init⟩, List.forall_mem_cons.mpr ⟨⟨q266, q267, q84, rfl, oX5_init⟩, List.forall_mem_cons.mpr ⟨⟨q419, q420, q79, oX0_isIn⟩, List.forall_mem_cons.mpr ⟨⟨q423, q424, q88, rfl, oX9_init⟩, List.forall_mem_cons.mpr ⟨⟨q447, q449, qs0, q79, oX0_isTable⟩, List.forall_mem_cons.mpr ⟨⟨q459, q460, q461, q80, oX1_hasRoom⟩, List.forall_mem_cons.mpr ⟨⟨q463, q464, q465, q80, oX1_add⟩, List.forall_mem_cons.mpr ⟨⟨q482, q483, q484, q80, oX1_is⟩, List.forall_mem_cons.mpr ⟨⟨q478, q480, qs1, q79, oX0_are⟩, List.forall_mem_cons.mpr ⟨⟨q493, q495, qs2, q79, oX0_isOne⟩, List.forall_mem_cons.mpr ⟨⟨q501, q502, q503, q80, oX1_hasColumn⟩, List.forall_mem_cons.mpr ⟨⟨q525, q527, qs3, q79, oX0_quantified⟩, List.forall_mem_cons.mpr ⟨⟨q541, q542, q543, q80, oX1_fits⟩, List.forall_mem_cons.mpr ⟨⟨q557, q559, qs4, q79, oX0_isNarrow⟩, List.forall_mem_cons.mpr ⟨⟨q581, q582, q89, oJ0_bitCount⟩, List.forall_mem_cons.mpr ⟨⟨q595, q487, q80, oX1_sort⟩, List.forall_mem_cons.mpr ⟨⟨q596, q597, q598, q80, oX1_cost⟩, List.forall_mem_cons.mpr ⟨⟨q619, q620, q621, q80, oX1_size⟩, List.forall_mem_cons.mpr ⟨⟨q628, q629, q630, q80, oX1_isBag⟩, List.forall_mem_cons.mpr ⟨⟨q633, q634, q635, q82, oX3_whole⟩, List.forall_mem_cons.mpr ⟨⟨q772, q773, q774, q84, oX5_run⟩, List.forall_mem_cons.mpr ⟨⟨q912, q894, q895, q84, oX5_sort⟩, List.forall_mem_cons.mpr ⟨⟨q913, q914, q915, q84, oX5_cell⟩, fun _ h => absurd h List.not_mem_nil⟩⟩⟩⟩⟩⟩⟩⟩⟩⟩⟩⟩⟩⟩⟩⟩⟩⟩⟩⟩⟩⟩⟩⟩⟩⟩
def am_ml_1 : List (Nat × Nat × am_MR) := [(3, 4, mX6_init), (52, 1, mX1_sort), (56, 0, mX1_is), (60, 1, mX1_isInside), (64, 0, mX1_ownSize), (68, 1, mX1_cut), (72, 0, mX1_ownCost), (75, 0, mX1_cost), (86, 7, mX6_init), (92, 8, mX6_init)]
theorem am_ml_1_ok : ∀ e ∈ am_ml_1, am_MP 1 e := List.forall_mem_cons.mpr ⟨q107, List.forall_mem_cons.mpr ⟨⟨q486, q487, q80, oX1_sort⟩, List.forall_mem_cons.mpr ⟨⟨q632, q483, q484, q80, oX1_is⟩, List.forall_mem_cons.mpr ⟨⟨q467, q468, q80, oX1_isInside⟩, List.forall_mem_cons.mpr ⟨⟨q600, q602, qs5, q80, oX1_ownSize⟩, List.forall_mem_cons.mpr ⟨⟨q610, q611, q80, oX1_cut⟩, List.forall_mem_cons.mpr ⟨⟨q615, q617, qs6, q80, oX1_ownCost⟩, List.forall_mem_cons.mpr ⟨⟨q623, q597, q598, q80, oX1_cost⟩, List.forall_mem_cons.mpr ⟨⟨q604, q605, q90, q606⟩, List.forall_mem_cons.mpr ⟨⟨q607, q608, q90, q609⟩, fun _ h => absurd h List.not_mem_nil⟩⟩⟩⟩⟩⟩⟩⟩⟩⟩
def am_ml_2 : List (Nat × Nat × am_MR) := [(3, 4, mX6_init), (46, 0, mX2_put), (50, 0, mX2_add), (54, 0, mX2_span), (58, 0, mX2_pick)]
theorem am_ml_2_ok : ∀ e ∈ am_ml_2, am_MP 2 e := List.forall_mem_cons.mpr ⟨q167, List.forall_mem_cons.mpr ⟨⟨q697, q682, q683, q81, oX2_put⟩, List.forall_mem_cons.mpr ⟨⟨q645, q647, qs7, q81, oX2_add⟩, List.forall_mem_cons.mpr ⟨⟨q726, q694, q695, q81, oX2_span⟩, List.forall_mem_cons.mpr ⟨⟨q727, q686, q687, q81, oX2_pick⟩, fun _ h => absurd h List.not_mem_nil⟩⟩⟩⟩⟩
def am_ml_3 : List (Nat × Nat × am_MR) := [(3, 4, mX6_init), (11, 3, mX4_init), (34, 0, mX2_clear), (49, 0, mX2_unit), (55, 0, mX3_bag), (71, 0, mX2_cross), (82, 0, mX2_laid), (86, 0, mX3_within), (90, 0, mX3_only), (94, 0, mX3_pairs), (100, 0, mX3_apply), (103, 0, mX2_sets), (107, 0, mX2_unique), (110, 0, mX2_top), (113, 0, mX3_groups), (116, 0, mX2_span), (122, 0, mX2_put), (126, 0, mX2_pick), (129, 0, mX2_join), (133, 0, mX3_fold), (137, 1, mX3_ofNone), (140, 0, mX2_gather), (159, 0, mX3_around), (163, 0, mX3_choices), (167, 0, mX3_attach), (174, 0, mX3_write), (177, 0, mX2_select), (180, 0, mX2_extend), (183, 0, mX3_folded), (187, 0, mX3_has), (190, 0, mX3_quantified), (194, 0, mX3_note), (198, 0, mX2_pickFirst), (201, 0, mX3_marked)]
theorem am_ml_3_ok : ∀ e ∈ am_ml_3, am_MP 3 e := List.forall_mem_cons.mpr ⟨q217, List.forall_mem_cons.mpr ⟨⟨q220, q221, q83, rfl, oX4_init⟩, List.forall_mem_cons.mpr ⟨⟨q637, q638, q639, q81, oX2_clear⟩, List.forall_mem_cons.mpr ⟨⟨q641, q642, q643, q81, oX2_unit⟩, List.forall_mem_cons.mpr ⟨⟨q649, q651, qs8, q82, oX3_bag⟩, List.forall_mem_cons.mpr ⟨⟨q653, q654, q655, q81, oX2_cross⟩, List.forall_mem_cons.mpr ⟨⟨q657, q658, q659, q81, oX2_laid⟩, List.forall_mem_cons.mpr ⟨⟨q661, q663, qs9, q82, oX3_within⟩, List.forall_mem_cons.mpr ⟨⟨q748, q750, qs20, q82, oX3_only⟩, List.forall_mem_cons.mpr ⟨⟨q752, q754, qs21, q82, oX3_pairs⟩, List.forall_mem_cons.mpr ⟨⟨q756, q758, qs22, q82, oX3_apply⟩, List.forall_mem_cons.mpr ⟨⟨q760, q761, q762, q81, oX2_sets⟩, List.forall_mem_cons.mpr ⟨⟨q689, q690, q691, q81, oX2_unique⟩, List.forall_mem_cons.mpr ⟨⟨q764, q765, q766, q81, oX2_top⟩, List.forall_mem_cons.mpr ⟨⟨q768, q770, qs23, q82, oX3_groups⟩, List.forall_mem_cons.mpr ⟨⟨q693, q694, q695, q81, oX2_span⟩, List.forall_mem_cons.mpr ⟨⟨q681, q682, q683, q81, oX2_put⟩, List.forall_mem_cons.mpr ⟨⟨q685, q686, q687, q81, oX2_pick⟩, List.forall_mem_cons.mpr ⟨⟨q710, q711, q712, q81, oX2_join⟩, List.forall_mem_cons.mpr ⟨⟨q698, q700, qs14, q82, oX3_fold⟩, List.forall_mem_cons.mpr ⟨⟨q706, q707, q82, oX3_ofNone⟩, List.forall_mem_cons.mpr ⟨⟨q702, q703, q704, q81, oX2_gather⟩, List.forall_mem_cons.mpr ⟨⟨q665, q667, qs10, q82, oX3_around⟩, List.forall_mem_cons.mpr ⟨⟨q677, q679, qs13, q82, oX3_choices⟩, List.forall_mem_cons.mpr ⟨⟨q669, q671, qs11, q82, oX3_attach⟩, List.forall_mem_cons.mpr ⟨⟨q732, q734, qs18, q82, oX3_write⟩, List.forall_mem_cons.mpr ⟨⟨q744, q745, q746, q81, oX2_select⟩, List.forall_mem_cons.mpr ⟨⟨q736, q737, q738, q81, oX2_extend⟩, List.forall_mem_cons.mpr ⟨⟨q673, q675, qs12, q82, oX3_folded⟩, List.forall_mem_cons.mpr ⟨⟨q718, q720, qs16, q82, oX3_has⟩, List.forall_mem_cons.mpr ⟨⟨q728, q730, qs17, q82, oX3_quantified⟩, List.forall_mem_cons.mpr ⟨⟨q714, q716, qs15, q82, oX3_note⟩, List.forall_mem_cons.mpr ⟨⟨q722, q723, q724, q81, oX2_pickFirst⟩, List.forall_mem_cons.mpr ⟨⟨q740, q742, qs19, q82, oX3_marked⟩, fun _ h => absurd h List.not_mem_nil⟩⟩⟩⟩⟩⟩⟩⟩⟩⟩⟩⟩⟩⟩⟩⟩⟩⟩⟩⟩⟩⟩⟩⟩⟩⟩⟩⟩⟩⟩⟩⟩⟩⟩
def am_ml_4 : List (Nat × Nat × am_MR) := [(3, 4, mX6_init)]
theorem am_ml_4_ok : ∀ e ∈ am_ml_4, am_MP 4 e := List.forall_mem_cons.mpr ⟨q223, fun _ h => absurd h List.not_mem_nil⟩
def am_ml_5 : List (Nat × Nat × am_MR) := [(3, 4, mX6_init), (11, 3, mX6_init), (20, 3, mX7_init), (85, 0, mX5_need), (92, 0, mX5_step), (96, 0, mX5_tidy), (99, 5, mX6_init), (112, 0, mX5_lay), (116, 0, mX5_cross), (120, 0, mX5_select), (123, 0, mX5_extend), (126, 0, mX5_pick), (129, 0, mX5_join), (132, 0, mX5_copyAll), (135, 0, mX5_apart), (138, 0, mX5_unique), (141, 0, mX5_gather), (144, 0, mX5_top), (146, 0, mX5_at), (150, 0, mX5_copy), (170, 0, mX6_run), (174, 0, mX5_reckon), (178, 0, mX5_put), (181, 0, mX7_begin), (185, 0, mX7_add), (189, 0, mX7_find), (207, 0, mX5_folded), (211, 6, mX6_init), (216, 0, mX5_merge), (220, 0, mX5_isBefore), (224, 0, mX5_sort)]
theorem am_ml_5_ok : ∀ e ∈ am_ml_5, am_MP 5 e := List.forall_mem_cons.mpr ⟨q269, List.forall_mem_cons.mpr ⟨⟨q272, q273, q85, rfl, oX6_init⟩, List.forall_mem_cons.mpr ⟨⟨q282, q283, q86, rfl, oX7_init⟩, List.forall_mem_cons.mpr ⟨⟨q776, q778, qs24, q84, oX5_need⟩, List.forall_mem_cons.mpr ⟨⟨q780, q782, qs25, q84, oX5_step⟩, List.forall_mem_cons.mpr ⟨⟨q908, q910, qs46, q84, oX5_tidy⟩, List.forall_mem_cons.mpr ⟨q788, List.forall_mem_cons.mpr ⟨⟨q784, q786, qs26, q84, oX5_lay⟩, List.forall_mem_cons.mpr ⟨⟨q791, q793, qs27, q84, oX5_cross⟩, List.forall_mem_cons.mpr ⟨⟨q803, q805, qs30, q84, oX5_select⟩, List.forall_mem_cons.mpr ⟨⟨q831, q833, qs32, q84, oX5_extend⟩, List.forall_mem_cons.mpr ⟨⟨q839, q841, qs34, q84, oX5_pick⟩, List.forall_mem_cons.mpr ⟨⟨q843, q845, qs35, q84, oX5_join⟩, List.forall_mem_cons.mpr ⟨⟨q868, q870, qs38, q84, oX5_copyAll⟩, List.forall_mem_cons.mpr ⟨⟨q872, q874, qs39, q84, oX5_apart⟩, List.forall_mem_cons.mpr ⟨⟨q876, q878, qs40, q84, oX5_unique⟩, List.forall_mem_cons.mpr ⟨⟨q880, q882, qs41, q84, oX5_gather⟩, List.forall_mem_cons.mpr ⟨⟨q889, q891, qs43, q84, oX5_top⟩, List.forall_mem_cons.mpr ⟨⟨q799, q801, qs29, q84, oX5_at⟩, List.forall_mem_cons.mpr ⟨⟨q795, q797, qs28, q84, oX5_copy⟩, List.forall_mem_cons.mpr ⟨⟨q811, q812, q813, q85, oX6_run⟩, List.forall_mem_cons.mpr ⟨⟨q807, q809, qs31, q84, oX5_reckon⟩, List.forall_mem_cons.mpr ⟨⟨q835, q837, qs33, q84, oX5_put⟩, List.forall_mem_cons.mpr ⟨⟨q847, q848, q849, q86, oX7_begin⟩, List.forall_mem_cons.mpr ⟨⟨q851, q852, q853, q86, oX7_add⟩, List.forall_mem_cons.mpr ⟨⟨q867, q856, q857, q86, oX7_find⟩, List.forall_mem_cons.mpr ⟨⟨q885, q887, qs42, q84, oX5_folded⟩, List.forall_mem_cons.mpr ⟨⟨q897, q898, q90, q899⟩, List.forall_mem_cons.mpr ⟨⟨q900, q902, qs44, q84, oX5_merge⟩, List.forall_mem_cons.mpr ⟨⟨q904, q906, qs45, q84, oX5_isBefore⟩, List.forall_mem_cons.mpr ⟨⟨q893, q894, q895, q84, oX5_sort⟩, fun _ h => absurd h List.not_mem_nil⟩⟩⟩⟩⟩⟩⟩⟩⟩⟩⟩⟩⟩⟩⟩⟩⟩⟩⟩⟩⟩⟩⟩⟩⟩⟩⟩⟩⟩⟩⟩
def am_ml_6 : List (Nat × Nat × am_MR) := [(3, 4, mX6_init), (16, 1, mX6_asTruth), (20, 1, mX6_compare), (24, 1, mX6_test), (27, 1, mX6_logic), (30, 1, mX6_reckon)]
theorem am_ml_6_ok : ∀ e ∈ am_ml_6, am_MP 6 e := List.forall_mem_cons.mpr ⟨q275, List.forall_mem_cons.mpr ⟨⟨q816, q817, q85, oX6_asTruth⟩, List.forall_mem_cons.mpr ⟨⟨q822, q823, q85, oX6_compare⟩, List.forall_mem_cons.mpr ⟨⟨q819, q820, q85, oX6_test⟩, List.forall_mem_cons.mpr ⟨⟨q825, q826, q85, oX6_logic⟩, List.forall_mem_cons.mpr ⟨⟨q828, q829, q85, oX6_reckon⟩, fun _ h => absurd h List.not_mem_nil⟩⟩⟩⟩⟩⟩
def am_ml_7 : List (Nat × Nat × am_MR) := [(3, 4, mX6_init), (52, 0, mX7_hash), (56, 0, mX7_isKey), (60, 0, mX7_find)]
theorem am_ml_7_ok : ∀ e ∈ am_ml_7, am_MP 7 e := List.forall_mem_cons.mpr ⟨q285, List.forall_mem_cons.mpr ⟨⟨q859, q861, qs36, q86, oX7_hash⟩, List.forall_mem_cons.mpr ⟨⟨q863, q865, qs37, q86, oX7_isKey⟩, List.forall_mem_cons.mpr ⟨⟨q855, q856, q857, q86, oX7_find⟩, fun _ h => absurd h List.not_mem_nil⟩⟩⟩⟩
def am_ml_8 : List (Nat × Nat × am_MR) := [(1, 4, mX6_init), (65, 1, mX8_isIn), (72, 0, mX8_make), (76, 0, mX8_is), (80, 0, mX8_looksAs), (84, 0, mX8_quantity), (88, 0, mX8_fits), (91, 0, mX8_looksWithin), (94, 1, mX8_bits), (100, 0, mX8_sizeOf), (104, 1, mX8_cut), (108, 0, mX8_costOf), (111, 0, mX8_measure), (114, 1, mX8_truthOf), (122, 0, mX8_value), (125, 0, mX8_truth), (131, 0, mX8_bag), (134, 0, mX8_folded), (137, 1, mX8_compared), (141, 0, mX8_quantified), (144, 0, mX8_areAlike), (148, 5, mX6_init), (154, 0, mX8_copy), (158, 0, mX8_scanned), (161, 0, mX8_filtered), (164, 0, mX8_widened), (167, 0, mX8_chosen), (170, 0, mX8_paired), (173, 0, mX8_applied), (176, 0, mX8_bothOf), (179, 0, mX8_onceOf), (182, 0, mX8_firstOf), (185, 0, mX8_grouped), (188, 0, mX8_enter), (192, 0, mX8_settle), (195, 0, mX8_exchange), (198, 0, mX8_isBefore), (201, 0, mX8_order)]
theorem am_ml_8_ok : ∀ e ∈ am_ml_8, am_MP 8 e := List.forall_mem_cons.mpr ⟨q931, List.forall_mem_cons.mpr ⟨⟨q1006, q1007, q87, oX8_isIn⟩, List.forall_mem_cons.mpr ⟨⟨q1021, q1023, qs47, q87, oX8_make⟩, List.forall_mem_cons.mpr ⟨⟨q1033, q1035, qs48, q87, oX8_is⟩, List.forall_mem_cons.mpr ⟨⟨q1037, q1039, qs49, q87, oX8_looksAs⟩, List.forall_mem_cons.mpr ⟨⟨q1069, q1071, qs50, q87, oX8_quantity⟩, List.forall_mem_cons.mpr ⟨⟨q1085, q1087, qs51, q87, oX8_fits⟩, List.forall_mem_cons.mpr ⟨⟨q1089, q1091, qs52, q87, oX8_looksWithin⟩, List.forall_mem_cons.mpr ⟨⟨q1125, q1126, q87, oX8_bits⟩, List.forall_mem_cons.mpr ⟨⟨q1140, q1142, qs54, q87, oX8_sizeOf⟩, List.forall_mem_cons.mpr ⟨⟨q1144, q1145, q87, oX8_cut⟩, List.forall_mem_cons.mpr ⟨⟨q1148, q1150, qs55, q87, oX8_costOf⟩, List.forall_mem_cons.mpr ⟨⟨q1136, q1138, qs53, q87, oX8_measure⟩, List.forall_mem_cons.mpr ⟨⟨q1193, q1194, q87, oX8_truthOf⟩, List.forall_mem_cons.mpr ⟨⟨q1177, q1179, qs61, q87, oX8_value⟩, List.forall_mem_cons.mpr ⟨⟨q1173, q1175, qs60, q87, oX8_truth⟩, List.forall_mem_cons.mpr ⟨⟨q1157, q1159, qs56, q87, oX8_bag⟩, List.forall_mem_cons.mpr ⟨⟨q1182, q1184, qs62, q87, oX8_folded⟩, List.forall_mem_cons.mpr ⟨⟨q1190, q1191, q87, oX8_compared⟩, List.forall_mem_cons.mpr ⟨⟨q1196, q1198, qs64, q87, oX8_quantified⟩, List.forall_mem_cons.mpr ⟨⟨q1186, q1188, qs63, q87, oX8_areAlike⟩, List.forall_mem_cons.mpr ⟨q1204, List.forall_mem_cons.mpr ⟨⟨q1200, q1202, qs65, q87, oX8_copy⟩, List.forall_mem_cons.mpr ⟨⟨q1161, q1163, qs57, q87, oX8_scanned⟩, List.forall_mem_cons.mpr ⟨⟨q1165, q1167, qs58, q87, oX8_filtered⟩, List.forall_mem_cons.mpr ⟨⟨q1205, q1207, qs66, q87, oX8_widened⟩, List.forall_mem_cons.mpr ⟨⟨q1213, q1215, qs68, q87, oX8_chosen⟩, List.forall_mem_cons.mpr ⟨⟨q1217, q1219, qs69, q87, oX8_paired⟩, List.forall_mem_cons.mpr ⟨⟨q1221, q1223, qs70, q87, oX8_applied⟩, List.forall_mem_cons.mpr ⟨⟨q1225, q1227, qs71, q87, oX8_bothOf⟩, List.forall_mem_cons.mpr ⟨⟨q1233, q1235, qs73, q87, oX8_onceOf⟩, List.forall_mem_cons.mpr ⟨⟨q1237, q1239, qs74, q87, oX8_firstOf⟩, List.forall_mem_cons.mpr ⟨⟨q1249, q1251, qs77, q87, oX8_grouped⟩, List.forall_mem_cons.mpr ⟨⟨q1169, q1171, qs59, q87, oX8_enter⟩, List.forall_mem_cons.mpr ⟨⟨q1209, q1211, qs67, q87, oX8_settle⟩, List.forall_mem_cons.mpr ⟨⟨q1229, q1231, qs72, q87, oX8_exchange⟩, List.forall_mem_cons.mpr ⟨⟨q1245, q1247, qs76, q87, oX8_isBefore⟩, List.forall_mem_cons.mpr ⟨⟨q1241, q1243, qs75, q87, oX8_order⟩, fun _ h => absurd h List.not_mem_nil⟩⟩⟩⟩⟩⟩⟩⟩⟩⟩⟩⟩⟩⟩⟩⟩⟩⟩⟩⟩⟩⟩⟩⟩⟩⟩⟩⟩⟩⟩⟩⟩⟩⟩⟩⟩⟩⟩
def am_ml_9 : List (Nat × Nat × am_MR) := [(3, 4, mX6_init)]
theorem am_ml_9_ok : ∀ e ∈ am_ml_9, am_MP 9 e := List.forall_mem_cons.mpr ⟨q426, fun _ h => absurd h List.not_mem_nil⟩
def am_ml_10 : List (Nat × Nat × am_MR) := [(9, 2, mX0_init), (12, 2, mX8_init), (13, 0, mX0_table), (17, 0, mX8_table), (18, 0, mX0_row), (22, 0, mX8_row), (23, 0, mX0_empty), (26, 0, mX8_empty), (27, 0, mX0_constant), (30, 0, mX8_constant), (31, 0, mX0_column), (35, 0, mX8_column), (36, 0, mX0_reckon), (40, 0, mX8_reckon), (41, 0, mX0_number), (44, 0, mX8_number), (45, 0, mX0_fold), (48, 0, mX8_fold), (49, 0, mX0_compare), (52, 0, mX8_compare), (53, 0, mX0_isNothing), (56, 0, mX8_isNothing), (57, 0, mX0_logic), (60, 0, mX8_logic), (61, 0, mX0_has), (64, 0, mX8_has), (65, 0, mX0_some), (68, 0, mX8_some), (69, 0, mX0_each), (72, 0, mX8_each), (73, 0, mX0_scan), (76, 0, mX8_scan), (77, 0, mX0_filter), (80, 0, mX8_filter), (81, 0, mX0_more), (84, 0, mX8_more), (85, 0, mX0_only), (88, 0, mX8_only), (89, 0, mX0_pairs), (92, 0, mX8_pairs), (93, 0, mX0_apply), (96, 0, mX8_apply), (97, 0, mX0_both), (100, 0, mX8_both), (101, 0, mX0_once), (104, 0, mX8_once), (105, 0, mX0_first), (108, 0, mX8_first), (109, 0, mX0_groups), (113, 0, mX8_groups), (114, 0, mX0_forget), (118, 0, mX8_forget), (119, 0, mX0_told), (122, 0, mX8_told), (123, 0, mX0_run), (126, 0, mX8_run), (127, 0, mX0_cell), (131, 0, mX8_cell), (132, 0, mX0_count), (135, 0, mX8_count)]
theorem am_ml_10_ok : ∀ e ∈ am_ml_10, am_MP 10 e := List.forall_mem_cons.mpr ⟨⟨q94, q95, q79, rfl, oX0_init⟩, List.forall_mem_cons.mpr ⟨⟨q928, q929, q87, rfl, oX8_init⟩, List.forall_mem_cons.mpr ⟨⟨q415, q416, q417, q79, oX0_table⟩, List.forall_mem_cons.mpr ⟨⟨q1002, q1003, q1004, q87, oX8_table⟩, List.forall_mem_cons.mpr ⟨⟨q443, q444, q445, q79, oX0_row⟩, List.forall_mem_cons.mpr ⟨⟨q1009, q1010, q1011, q87, oX8_row⟩, List.forall_mem_cons.mpr ⟨⟨q451, q452, q453, q79, oX0_empty⟩, List.forall_mem_cons.mpr ⟨⟨q1013, q1014, q1015, q87, oX8_empty⟩, List.forall_mem_cons.mpr ⟨⟨q455, q456, q457, q79, oX0_constant⟩, List.forall_mem_cons.mpr ⟨⟨q1017, q1018, q1019, q87, oX8_constant⟩, List.forall_mem_cons.mpr ⟨⟨q470, q471, q472, q79, oX0_column⟩, List.forall_mem_cons.mpr ⟨⟨q1025, q1026, q1027, q87, oX8_column⟩, List.forall_mem_cons.mpr ⟨⟨q474, q475, q476, q79, oX0_reckon⟩, List.forall_mem_cons.mpr ⟨⟨q1029, q1030, q1031, q87, oX8_reckon⟩, List.forall_mem_cons.mpr ⟨⟨q489, q490, q491, q79, oX0_number⟩, List.forall_mem_cons.mpr ⟨⟨q1041, q1042, q1043, q87, oX8_number⟩, List.forall_mem_cons.mpr ⟨⟨q497, q498, q499, q79, oX0_fold⟩, List.forall_mem_cons.mpr ⟨⟨q1045, q1046, q1047, q87, oX8_fold⟩, List.forall_mem_cons.mpr ⟨⟨q505, q506, q507, q79, oX0_compare⟩, List.forall_mem_cons.mpr ⟨⟨q1049, q1050, q1051, q87, oX8_compare⟩, List.forall_mem_cons.mpr ⟨⟨q509, q510, q511, q79, oX0_isNothing⟩, List.forall_mem_cons.mpr ⟨⟨q1053, q1054, q1055, q87, oX8_isNothing⟩, List.forall_mem_cons.mpr ⟨⟨q513, q514, q515, q79, oX0_logic⟩, List.forall_mem_cons.mpr ⟨⟨q1057, q1058, q1059, q87, oX8_logic⟩, List.forall_mem_cons.mpr ⟨⟨q517, q518, q519, q79, oX0_has⟩, List.forall_mem_cons.mpr ⟨⟨q1061, q1062, q1063, q87, oX8_has⟩, List.forall_mem_cons.mpr ⟨⟨q521, q522, q523, q79, oX0_some⟩, List.forall_mem_cons.mpr ⟨⟨q1065, q1066, q1067, q87, oX8_some⟩, List.forall_mem_cons.mpr ⟨⟨q529, q530, q531, q79, oX0_each⟩, List.forall_mem_cons.mpr ⟨⟨q1073, q1074, q1075, q87, oX8_each⟩, List.forall_mem_cons.mpr ⟨⟨q533, q534, q535, q79, oX0_scan⟩, List.forall_mem_cons.mpr ⟨⟨q1077, q1078, q1079, q87, oX8_scan⟩, List.forall_mem_cons.mpr ⟨⟨q537, q538, q539, q79, oX0_filter⟩, List.forall_mem_cons.mpr ⟨⟨q1081, q1082, q1083, q87, oX8_filter⟩, List.forall_mem_cons.mpr ⟨⟨q545, q546, q547, q79, oX0_more⟩, List.forall_mem_cons.mpr ⟨⟨q1093, q1094, q1095, q87, oX8_more⟩, List.forall_mem_cons.mpr ⟨⟨q549, q550, q551, q79, oX0_only⟩, List.forall_mem_cons.mpr ⟨⟨q1097, q1098, q1099, q87, oX8_only⟩, List.forall_mem_cons.mpr ⟨⟨q553, q554, q555, q79, oX0_pairs⟩, List.forall_mem_cons.mpr ⟨⟨q1101, q1102, q1103, q87, oX8_pairs⟩, List.forall_mem_cons.mpr ⟨⟨q561, q562, q563, q79, oX0_apply⟩, List.forall_mem_cons.mpr ⟨⟨q1105, q1106, q1107, q87, oX8_apply⟩, List.forall_mem_cons.mpr ⟨⟨q565, q566, q567, q79, oX0_both⟩, List.forall_mem_cons.mpr ⟨⟨q1109, q1110, q1111, q87, oX8_both⟩, List.forall_mem_cons.mpr ⟨⟨q569, q570, q571, q79, oX0_once⟩, List.forall_mem_cons.mpr ⟨⟨q1113, q1114, q1115, q87, oX8_once⟩, List.forall_mem_cons.mpr ⟨⟨q573, q574, q575, q79, oX0_first⟩, List.forall_mem_cons.mpr ⟨⟨q1117, q1118, q1119, q87, oX8_first⟩, List.forall_mem_cons.mpr ⟨⟨q577, q578, q579, q79, oX0_groups⟩, List.forall_mem_cons.mpr ⟨⟨q1121, q1122, q1123, q87, oX8_groups⟩, List.forall_mem_cons.mpr ⟨⟨q587, q588, q589, q79, oX0_forget⟩, List.forall_mem_cons.mpr ⟨⟨q1128, q1129, q1130, q87, oX8_forget⟩, List.forall_mem_cons.mpr ⟨⟨q591, q592, q593, q79, oX0_told⟩, List.forall_mem_cons.mpr ⟨⟨q1132, q1133, q1134, q87, oX8_told⟩, List.forall_mem_cons.mpr ⟨⟨q624, q625, q626, q79, oX0_run⟩, List.forall_mem_cons.mpr ⟨⟨q1152, q1153, q1154, q87, oX8_run⟩, List.forall_mem_cons.mpr ⟨⟨q917, q918, q919, q79, oX0_cell⟩, List.forall_mem_cons.mpr ⟨⟨q1253, q1254, q1255, q87, oX8_cell⟩, List.forall_mem_cons.mpr ⟨⟨q922, q923, q924, q79, oX0_count⟩, List.forall_mem_cons.mpr ⟨⟨q1258, q1259, q1260, q87, oX8_count⟩, fun _ h => absurd h List.not_mem_nil⟩⟩⟩⟩⟩⟩⟩⟩⟩⟩⟩⟩⟩⟩⟩⟩⟩⟩⟩⟩⟩⟩⟩⟩⟩⟩⟩⟩⟩⟩⟩⟩⟩⟩⟩⟩⟩⟩⟩⟩⟩⟩⟩⟩⟩⟩⟩⟩⟩⟩⟩⟩⟩⟩⟩⟩⟩⟩⟩⟩
def am_ml_11 : List (Nat × Nat × am_MR) := []
theorem am_ml_11_ok : ∀ e ∈ am_ml_11, am_MP 11 e := fun _ h => absurd h List.not_mem_nil
def am_ml_12 : List (Nat × Nat × am_MR) := []
theorem am_ml_12_ok : ∀ e ∈ am_ml_12, am_MP 12 e := fun _ h => absurd h List.not_mem_nil
def am_ml : Nat → List (Nat × Nat × am_MR)
  | 0 => am_ml_0
  | 1 => am_ml_1
  | 2 => am_ml_2
  | 3 => am_ml_3
  | 4 => am_ml_4
  | 5 => am_ml_5
  | 6 => am_ml_6
  | 7 => am_ml_7
  | 8 => am_ml_8
  | 9 => am_ml_9
  | 10 => am_ml_10
  | 11 => am_ml_11
  | _ => am_ml_12
theorem am_ml_ok : ∀ (c : Nat), c < 13 → ∀ e ∈ am_ml c, am_MP c e
  | 0, _ => am_ml_0_ok
  | 1, _ => am_ml_1_ok
  | 2, _ => am_ml_2_ok
  | 3, _ => am_ml_3_ok
  | 4, _ => am_ml_4_ok
  | 5, _ => am_ml_5_ok
  | 6, _ => am_ml_6_ok
  | 7, _ => am_ml_7_ok
  | 8, _ => am_ml_8_ok
  | 9, _ => am_ml_9_ok
  | 10, _ => am_ml_10_ok
  | 11, _ => am_ml_11_ok
  | 12, _ => am_ml_12_ok
  | n + 13, h => absurd h (by omega)
def am_kl_0 : List (Nat × Int32) := []
theorem am_kl_0_ok : ∀ e ∈ am_kl_0, am_KP 0 e := fun _ h => absurd h List.not_mem_nil
def am_kl_1 : List (Nat × Int32) := [(80, 1000000)]
theorem am_kl_1_ok : ∀ e ∈ am_kl_1, am_KP 1 e := List.forall_mem_cons.mpr ⟨q614, fun _ h => absurd h List.not_mem_nil⟩
def am_kl_2 : List (Nat × Int32) := [(11, 32768), (35, 524288)]
theorem am_kl_2_ok : ∀ e ∈ am_kl_2, am_KP 2 e := List.forall_mem_cons.mpr ⟨q168, List.forall_mem_cons.mpr ⟨q169, fun _ h => absurd h List.not_mem_nil⟩⟩
def am_kl_3 : List (Nat × Int32) := [(149, -2147483648)]
theorem am_kl_3_ok : ∀ e ∈ am_kl_3, am_KP 3 e := List.forall_mem_cons.mpr ⟨q709, fun _ h => absurd h List.not_mem_nil⟩
def am_kl_4 : List (Nat × Int32) := []
theorem am_kl_4_ok : ∀ e ∈ am_kl_4, am_KP 4 e := fun _ h => absurd h List.not_mem_nil
def am_kl_5 : List (Nat × Int32) := [(25, 600000), (32, 32768), (206, -2147483648)]
theorem am_kl_5_ok : ∀ e ∈ am_kl_5, am_KP 5 e := List.forall_mem_cons.mpr ⟨q330, List.forall_mem_cons.mpr ⟨q331, List.forall_mem_cons.mpr ⟨q884, fun _ h => absurd h List.not_mem_nil⟩⟩⟩
def am_kl_6 : List (Nat × Int32) := [(15, -2147483648)]
theorem am_kl_6_ok : ∀ e ∈ am_kl_6, am_KP 6 e := List.forall_mem_cons.mpr ⟨q815, fun _ h => absurd h List.not_mem_nil⟩
def am_kl_7 : List (Nat × Int32) := []
theorem am_kl_7_ok : ∀ e ∈ am_kl_7, am_KP 7 e := fun _ h => absurd h List.not_mem_nil
def am_kl_8 : List (Nat × Int32) := [(50, 40000), (54, 600000), (118, -2147483648)]
theorem am_kl_8_ok : ∀ e ∈ am_kl_8, am_KP 8 e := List.forall_mem_cons.mpr ⟨q932, List.forall_mem_cons.mpr ⟨q933, List.forall_mem_cons.mpr ⟨q1181, fun _ h => absurd h List.not_mem_nil⟩⟩⟩
def am_kl_9 : List (Nat × Int32) := []
theorem am_kl_9_ok : ∀ e ∈ am_kl_9, am_KP 9 e := fun _ h => absurd h List.not_mem_nil
def am_kl_10 : List (Nat × Int32) := []
theorem am_kl_10_ok : ∀ e ∈ am_kl_10, am_KP 10 e := fun _ h => absurd h List.not_mem_nil
def am_kl_11 : List (Nat × Int32) := [(265, 1431655765), (266, 858993459), (267, 252645135)]
theorem am_kl_11_ok : ∀ e ∈ am_kl_11, am_KP 11 e := List.forall_mem_cons.mpr ⟨q584, List.forall_mem_cons.mpr ⟨q585, List.forall_mem_cons.mpr ⟨q586, fun _ h => absurd h List.not_mem_nil⟩⟩⟩
def am_kl_12 : List (Nat × Int32) := []
theorem am_kl_12_ok : ∀ e ∈ am_kl_12, am_KP 12 e := fun _ h => absurd h List.not_mem_nil
def am_kl : Nat → List (Nat × Int32)
  | 0 => am_kl_0
  | 1 => am_kl_1
  | 2 => am_kl_2
  | 3 => am_kl_3
  | 4 => am_kl_4
  | 5 => am_kl_5
  | 6 => am_kl_6
  | 7 => am_kl_7
  | 8 => am_kl_8
  | 9 => am_kl_9
  | 10 => am_kl_10
  | 11 => am_kl_11
  | _ => am_kl_12
theorem am_kl_ok : ∀ (c : Nat), c < 13 → ∀ e ∈ am_kl c, am_KP c e
  | 0, _ => am_kl_0_ok
  | 1, _ => am_kl_1_ok
  | 2, _ => am_kl_2_ok
  | 3, _ => am_kl_3_ok
  | 4, _ => am_kl_4_ok
  | 5, _ => am_kl_5_ok
  | 6, _ => am_kl_6_ok
  | 7, _ => am_kl_7_ok
  | 8, _ => am_kl_8_ok
  | 9, _ => am_kl_9_ok
  | 10, _ => am_kl_10_ok
  | 11, _ => am_kl_11_ok
  | 12, _ => am_kl_12_ok
  | n + 13, h => absurd h (by omega)
def am_jl_0 : List (Nat × Int64) := [(168, 1099511627776)]
theorem am_jl_0_ok : ∀ e ∈ am_jl_0, am_JP 0 e := List.forall_mem_cons.mpr ⟨q921, fun _ h => absurd h List.not_mem_nil⟩
def am_jl_1 : List (Nat × Int64) := [(78, 1000000)]
theorem am_jl_1_ok : ∀ e ∈ am_jl_1, am_JP 1 e := List.forall_mem_cons.mpr ⟨q613, fun _ h => absurd h List.not_mem_nil⟩
def am_jl_2 : List (Nat × Int64) := []
theorem am_jl_2_ok : ∀ e ∈ am_jl_2, am_JP 2 e := fun _ h => absurd h List.not_mem_nil
def am_jl_3 : List (Nat × Int64) := []
theorem am_jl_3_ok : ∀ e ∈ am_jl_3, am_JP 3 e := fun _ h => absurd h List.not_mem_nil
def am_jl_4 : List (Nat × Int64) := []
theorem am_jl_4_ok : ∀ e ∈ am_jl_4, am_JP 4 e := fun _ h => absurd h List.not_mem_nil
def am_jl_5 : List (Nat × Int64) := []
theorem am_jl_5_ok : ∀ e ∈ am_jl_5, am_JP 5 e := fun _ h => absurd h List.not_mem_nil
def am_jl_6 : List (Nat × Int64) := []
theorem am_jl_6_ok : ∀ e ∈ am_jl_6, am_JP 6 e := fun _ h => absurd h List.not_mem_nil
def am_jl_7 : List (Nat × Int64) := []
theorem am_jl_7_ok : ∀ e ∈ am_jl_7, am_JP 7 e := fun _ h => absurd h List.not_mem_nil
def am_jl_8 : List (Nat × Int64) := [(98, 1000000), (205, 3000), (213, 1099511627776)]
theorem am_jl_8_ok : ∀ e ∈ am_jl_8, am_JP 8 e := List.forall_mem_cons.mpr ⟨q1147, List.forall_mem_cons.mpr ⟨q1156, List.forall_mem_cons.mpr ⟨q1257, fun _ h => absurd h List.not_mem_nil⟩⟩⟩
def am_jl_9 : List (Nat × Int64) := []
theorem am_jl_9_ok : ∀ e ∈ am_jl_9, am_JP 9 e := fun _ h => absurd h List.not_mem_nil
def am_jl_10 : List (Nat × Int64) := []
theorem am_jl_10_ok : ∀ e ∈ am_jl_10, am_JP 10 e := fun _ h => absurd h List.not_mem_nil
def am_jl_11 : List (Nat × Int64) := []
theorem am_jl_11_ok : ∀ e ∈ am_jl_11, am_JP 11 e := fun _ h => absurd h List.not_mem_nil
def am_jl_12 : List (Nat × Int64) := []
theorem am_jl_12_ok : ∀ e ∈ am_jl_12, am_JP 12 e := fun _ h => absurd h List.not_mem_nil
def am_jl : Nat → List (Nat × Int64)
  | 0 => am_jl_0
  | 1 => am_jl_1
  | 2 => am_jl_2
  | 3 => am_jl_3
  | 4 => am_jl_4
  | 5 => am_jl_5
  | 6 => am_jl_6
  | 7 => am_jl_7
  | 8 => am_jl_8
  | 9 => am_jl_9
  | 10 => am_jl_10
  | 11 => am_jl_11
  | _ => am_jl_12
theorem am_jl_ok : ∀ (c : Nat), c < 13 → ∀ e ∈ am_jl c, am_JP c e
  | 0, _ => am_jl_0_ok
  | 1, _ => am_jl_1_ok
  | 2, _ => am_jl_2_ok
  | 3, _ => am_jl_3_ok
  | 4, _ => am_jl_4_ok
  | 5, _ => am_jl_5_ok
  | 6, _ => am_jl_6_ok
  | 7, _ => am_jl_7_ok
  | 8, _ => am_jl_8_ok
  | 9, _ => am_jl_9_ok
  | 10, _ => am_jl_10_ok
  | 11, _ => am_jl_11_ok
  | 12, _ => am_jl_12_ok
  | n + 13, h => absurd h (by omega)
def am_nl_0 : List (Nat × Nat) := [(9, 9), (15, 1), (24, 2), (31, 3), (40, 5)]
theorem am_nl_0_ok : ∀ e ∈ am_nl_0, am_CP 0 e := List.forall_mem_cons.mpr ⟨⟨q100, by decide⟩, List.forall_mem_cons.mpr ⟨⟨q102, by decide⟩, List.forall_mem_cons.mpr ⟨⟨q162, by decide⟩, List.forall_mem_cons.mpr ⟨⟨q212, by decide⟩, List.forall_mem_cons.mpr ⟨⟨q264, by decide⟩, fun _ h => absurd h List.not_mem_nil⟩⟩⟩⟩⟩
def am_nl_1 : List (Nat × Nat) := []
theorem am_nl_1_ok : ∀ e ∈ am_nl_1, am_CP 1 e := fun _ h => absurd h List.not_mem_nil
def am_nl_2 : List (Nat × Nat) := []
theorem am_nl_2_ok : ∀ e ∈ am_nl_2, am_CP 2 e := fun _ h => absurd h List.not_mem_nil
def am_nl_3 : List (Nat × Nat) := [(9, 4)]
theorem am_nl_3_ok : ∀ e ∈ am_nl_3, am_CP 3 e := List.forall_mem_cons.mpr ⟨⟨q218, by decide⟩, fun _ h => absurd h List.not_mem_nil⟩
def am_nl_4 : List (Nat × Nat) := []
theorem am_nl_4_ok : ∀ e ∈ am_nl_4, am_CP 4 e := fun _ h => absurd h List.not_mem_nil
def am_nl_5 : List (Nat × Nat) := [(9, 6), (18, 7)]
theorem am_nl_5_ok : ∀ e ∈ am_nl_5, am_CP 5 e := List.forall_mem_cons.mpr ⟨⟨q270, by decide⟩, List.forall_mem_cons.mpr ⟨⟨q280, by decide⟩, fun _ h => absurd h List.not_mem_nil⟩⟩
def am_nl_6 : List (Nat × Nat) := []
theorem am_nl_6_ok : ∀ e ∈ am_nl_6, am_CP 6 e := fun _ h => absurd h List.not_mem_nil
def am_nl_7 : List (Nat × Nat) := []
theorem am_nl_7_ok : ∀ e ∈ am_nl_7, am_CP 7 e := fun _ h => absurd h List.not_mem_nil
def am_nl_8 : List (Nat × Nat) := []
theorem am_nl_8_ok : ∀ e ∈ am_nl_8, am_CP 8 e := fun _ h => absurd h List.not_mem_nil
def am_nl_9 : List (Nat × Nat) := []
theorem am_nl_9_ok : ∀ e ∈ am_nl_9, am_CP 9 e := fun _ h => absurd h List.not_mem_nil
def am_nl_10 : List (Nat × Nat) := [(7, 0), (10, 8)]
theorem am_nl_10_ok : ∀ e ∈ am_nl_10, am_CP 10 e := List.forall_mem_cons.mpr ⟨⟨q92, by decide⟩, List.forall_mem_cons.mpr ⟨⟨q926, by decide⟩, fun _ h => absurd h List.not_mem_nil⟩⟩
def am_nl_11 : List (Nat × Nat) := []
theorem am_nl_11_ok : ∀ e ∈ am_nl_11, am_CP 11 e := fun _ h => absurd h List.not_mem_nil
def am_nl_12 : List (Nat × Nat) := []
theorem am_nl_12_ok : ∀ e ∈ am_nl_12, am_CP 12 e := fun _ h => absurd h List.not_mem_nil
def am_nl : Nat → List (Nat × Nat)
  | 0 => am_nl_0
  | 1 => am_nl_1
  | 2 => am_nl_2
  | 3 => am_nl_3
  | 4 => am_nl_4
  | 5 => am_nl_5
  | 6 => am_nl_6
  | 7 => am_nl_7
  | 8 => am_nl_8
  | 9 => am_nl_9
  | 10 => am_nl_10
  | 11 => am_nl_11
  | _ => am_nl_12
theorem am_nl_ok : ∀ (c : Nat), c < 13 → ∀ e ∈ am_nl c, am_CP c e
  | 0, _ => am_nl_0_ok
  | 1, _ => am_nl_1_ok
  | 2, _ => am_nl_2_ok
  | 3, _ => am_nl_3_ok
  | 4, _ => am_nl_4_ok
  | 5, _ => am_nl_5_ok
  | 6, _ => am_nl_6_ok
  | 7, _ => am_nl_7_ok
  | 8, _ => am_nl_8_ok
  | 9, _ => am_nl_9_ok
  | 10, _ => am_nl_10_ok
  | 11, _ => am_nl_11_ok
  | 12, _ => am_nl_12_ok
  | n + 13, h => absurd h (by omega)
