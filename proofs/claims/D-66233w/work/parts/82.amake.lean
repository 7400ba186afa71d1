/-! CALLS of ApplyFree that make a term -/
theorem cl_o {a n : Nat} (h : a < n) : ∀ m, some a = some m → m < n := fun m e => by cases e; exact h
theorem cl_o0 {n : Nat} : ∀ m, (none : Option Nat) = some m → m < n := fun m e => by cases e
theorem cl_le {x : Int32} {n c : Nat} (h : vp_in x n) (hn : n < 2 ^ 31) (hc : c < 2 ^ 31) : nI c ≤ x ↔ c ≤ x.toNatClampNeg := by
  obtain ⟨e, hx⟩ := ap_nI h hn
  rw [e, nI_leI hc (by omega), nI_clamp (by omega)]
theorem cl_l0 {T : Nat → sm_T} {k : Nat} : cl_look T none ||| cl_in T k none = 0 := Nat.or_zero _
section CC
variable {d : Nat} {z : wd_Z} {L : wd_L} {M : wd_M} {K : Int32 → wd_Z → wd_M → wd_L → Prop} {T : Nat → sm_T} {N : Nat} {tc : Nat → Nat} {nt : Nat} {x1 x2 x3 x4 : Int32}
def cl_N (K : Int32 → wd_Z → wd_M → wd_L → Prop) (z : wd_Z) (M : wd_M) (L : wd_L) (T : Nat → sm_T) (N : Nat) (τ : sm_T) : Prop := ∀ M', tx_T M' (ap_push T N τ) (N + 1) → ak_fr 3 11 M M' → K (nI N) z M' L
theorem cl_bitCount {g : Nat} (hg : g < 256) (h : K (nI (sm_ks (nI g)).length) z M L) : wRunI (d, 0, 0) mJ0_bitCount [.int (nI g)] z M L K := by
  refine fJ0_bitCount_e (wQi_i ?_)
  refine Eq.mpr (congrArg (fun v => K v z M L) ?_) h
  clear h
  revert g
  decide +kernel
theorem cc_constant (hd : 5 ≤ d) (hT : tx_T M T N) (w : sm_wf T tc nt N) (h1 : N < 120 → cl_N K z M L T N (tm_constant x1)) (h0 : ¬ N < 120 → K (-1) z M L) : wRunI (d, 0, 0) mX0_constant [.ref 1, .int x1] z M L K := by
  obtain ⟨d, rfl, hd⟩ := ak_deep hd
  refine fX0_constant_e (cl_hasRoom hT (fun a => ⟨fun e => absurd e (by decide), fun _ => ?_⟩) (fun a => ⟨fun _ => wQi_i (h0 a), fun e => absurd rfl e⟩))
  refine cl_add (k := 0) (o := 0) (w := 0) (a := none) (b := none) (by omega) hT w a (by omega) (by omega) (by omega) cl_o0 cl_o0 rfl rfl rfl rfl rfl fun M' t f => ⟨vp_in_nI (by omega) (by omega), wQi_i (h1 a _ ?_ (ak_fr_up f (by omega) (by omega)))⟩
  rw [cl_l0] at t
  rw [nI_clamp (by omega)]
  exact cl_set8 t
theorem cc_column (hd : 5 ≤ d) (hT : tx_T M T N) (w : sm_wf T tc nt N) (h1 : ok_column N x1 x2 → cl_N K z M L T N (tm_column x1 x2)) (h0 : ¬ ok_column N x1 x2 → K (-1) z M L) : wRunI (d, 0, 0) mX0_column [.ref 1, .int x1, .int x2] z M L K := by
  obtain ⟨d, rfl, hd⟩ := ak_deep hd
  refine fX0_column_e (cl_hasRoom hT (fun a => ⟨fun e => absurd e (by decide), fun _ => ?_⟩) (fun a => ⟨fun _ => wQi_i (h0 fun q => a q.1), fun e => absurd rfl e⟩))
  refine cl_isIn (n := 4) (by decide) (fun b => ⟨fun e => absurd e (by decide), fun _ => ?_⟩) (fun b => ⟨fun _ => wQi_i (h0 fun q => b q.2.1), fun e => absurd rfl e⟩)
  refine cl_isIn (n := 8) (by decide) (fun c => ⟨fun e => absurd e (by decide), fun _ => ?_⟩) (fun c => ⟨fun _ => wQi_i (h0 fun q => c q.2.2), fun e => absurd rfl e⟩)
  have h1 := h1 ⟨a, b, c⟩
  obtain ⟨i, hi, rfl⟩ := vp_in_of b (by omega)
  obtain ⟨j, hj, rfl⟩ := vp_in_of c (by omega)
  unfold tm_column at h1
  rw [nI_clamp (by omega), nI_clamp (by omega)] at h1
  refine cl_add (k := 1) (o := 0) (w := 0) (a := none) (b := none) (by omega) hT w a (by omega) (by omega) (by omega) cl_o0 cl_o0 rfl rfl rfl rfl rfl fun M' t f => ⟨vp_in_nI (by omega) (by omega), vp_in_nI (by omega) (by omega), wQi_i (h1 _ ?_ (ak_fr_up (ak_fr_up f (by omega) (by omega)) (by omega) (by omega)))⟩
  have sh : ∀ k, k < 32 → (1 : Int32) <<< (nI k &&& 31) = nI (2 ^ k) := by decide
  rw [nI_clamp (by omega), ak_n8, pk_mul, nI_add, sh _ (by omega), Nat.mul_comm i 8]
  exact cl_set11 (cl_set8 t)
theorem cc_reckon (hd : 5 ≤ d) (hT : tx_T M T N) (w : sm_wf T tc nt N) (h1 : ok_op T N 3 0 0 x1 x2 x3 → cl_N K z M L T N (tm_2 T 2 x1.toNatClampNeg x2 x3 0)) (h0 : ¬ ok_op T N 3 0 0 x1 x2 x3 → K (-1) z M L) : wRunI (d, 0, 0) mX0_reckon [.ref 1, .int x1, .int x2, .int x3] z M L K := by
  obtain ⟨d, rfl, hd⟩ := ak_deep hd
  refine fX0_reckon_e (cl_are (by omega) hT w rfl rfl (by decide) (by decide) (fun a => ⟨fun e => absurd e (by decide), fun _ => ?_⟩) (fun a => ⟨fun _ => wQi_i (h0 fun q => a q.1), fun e => absurd rfl e⟩))
  refine cl_isIn (n := 3) (by decide) (fun b => ⟨fun e => absurd e (by decide), fun _ => ?_⟩) (fun b => ⟨fun _ => wQi_i (h0 fun q => b q.2), fun e => absurd rfl e⟩)
  have hN := hT.2.1
  obtain ⟨o0, o1⟩ := ap_nI b (by omega)
  obtain ⟨a0, a1⟩ := ap_is_lt a.2.1 hN
  obtain ⟨b0, b1⟩ := ap_is_lt a.2.2 hN
  exact cl_add (k := 2) (w := 0) (a := some x2.toNatClampNeg) (b := some x3.toNatClampNeg) (by omega) hT w a.1 (by omega) (by omega) (by omega) (cl_o a1) (cl_o b1) rfl o0 a0 b0 rfl fun M' t f => wQi_i (h1 ⟨a, b⟩ M' t f)
theorem cc_compare (hd : 5 ≤ d) (hT : tx_T M T N) (w : sm_wf T tc nt N) (h1 : ok_op T N 5 0 0 x1 x2 x3 → cl_N K z M L T N (tm_2 T 5 x1.toNatClampNeg x2 x3 0)) (h0 : ¬ ok_op T N 5 0 0 x1 x2 x3 → K (-1) z M L) : wRunI (d, 0, 0) mX0_compare [.ref 1, .int x1, .int x2, .int x3] z M L K := by
  obtain ⟨d, rfl, hd⟩ := ak_deep hd
  refine fX0_compare_e (cl_are (by omega) hT w rfl rfl (by decide) (by decide) (fun a => ⟨fun e => absurd e (by decide), fun _ => ?_⟩) (fun a => ⟨fun _ => wQi_i (h0 fun q => a q.1), fun e => absurd rfl e⟩))
  refine cl_isIn (n := 5) (by decide) (fun b => ⟨fun e => absurd e (by decide), fun _ => ?_⟩) (fun b => ⟨fun _ => wQi_i (h0 fun q => b q.2), fun e => absurd rfl e⟩)
  have hN := hT.2.1
  obtain ⟨o0, o1⟩ := ap_nI b (by omega)
  obtain ⟨a0, a1⟩ := ap_is_lt a.2.1 hN
  obtain ⟨b0, b1⟩ := ap_is_lt a.2.2 hN
  exact cl_add (k := 5) (w := 0) (a := some x2.toNatClampNeg) (b := some x3.toNatClampNeg) (by omega) hT w a.1 (by omega) (by omega) (by omega) (cl_o a1) (cl_o b1) rfl o0 a0 b0 rfl fun M' t f => wQi_i (h1 ⟨a, b⟩ M' t f)
theorem cl_l1 {k a : Nat} : cl_look T (some a) ||| cl_in T k none = sm_l (T a) := Nat.or_zero _
theorem cc_number (hd : 5 ≤ d) (hT : tx_T M T N) (w : sm_wf T tc nt N) (h1 : ok_one T N 1 x1 → cl_N K z M L T N (tm_1 T 3 0 x1 0 0 0)) (h0 : ¬ ok_one T N 1 x1 → K (-1) z M L) : wRunI (d, 0, 0) mX0_number [.ref 1, .int x1] z M L K := by
  obtain ⟨d, rfl, hd⟩ := ak_deep hd
  refine fX0_number_e (cl_isOne (by omega) hT w rfl (by decide) (fun a => ⟨fun e => absurd e (by decide), fun _ => ?_⟩) (fun a => ⟨fun _ => wQi_i (h0 a), fun e => absurd rfl e⟩))
  obtain ⟨a0, a1⟩ := ap_is_lt a.2 hT.2.1
  refine cl_add (k := 3) (o := 0) (w := 0) (a := some x1.toNatClampNeg) (b := none) (by omega) hT w a.1 (by omega) (by omega) (by omega) (cl_o a1) cl_o0 rfl rfl a0 rfl rfl fun M' t f => wQi_i (h1 a M' ?_ f)
  rw [cl_l1] at t; exact t
theorem cc_isNothing (hd : 5 ≤ d) (hT : tx_T M T N) (w : sm_wf T tc nt N) (h1 : ok_one T N 0 x1 → cl_N K z M L T N (tm_1 T 6 0 x1 0 0 0)) (h0 : ¬ ok_one T N 0 x1 → K (-1) z M L) : wRunI (d, 0, 0) mX0_isNothing [.ref 1, .int x1] z M L K := by
  obtain ⟨d, rfl, hd⟩ := ak_deep hd
  refine fX0_isNothing_e (cl_isOne (by omega) hT w rfl (by decide) (fun a => ⟨fun e => absurd e (by decide), fun _ => ?_⟩) (fun a => ⟨fun _ => wQi_i (h0 a), fun e => absurd rfl e⟩))
  obtain ⟨a0, a1⟩ := ap_is_lt a.2 hT.2.1
  refine cl_add (k := 6) (o := 0) (w := 0) (a := some x1.toNatClampNeg) (b := none) (by omega) hT w a.1 (by omega) (by omega) (by omega) (cl_o a1) cl_o0 rfl rfl a0 rfl rfl fun M' t f => wQi_i (h1 a M' ?_ f)
  rw [cl_l1] at t; exact t
theorem cc_has (hd : 5 ≤ d) (hT : tx_T M T N) (w : sm_wf T tc nt N) (h1 : ok_one T N 2 x1 → cl_N K z M L T N (tm_1 T 8 0 x1 0 0 0)) (h0 : ¬ ok_one T N 2 x1 → K (-1) z M L) : wRunI (d, 0, 0) mX0_has [.ref 1, .int x1] z M L K := by
  obtain ⟨d, rfl, hd⟩ := ak_deep hd
  refine fX0_has_e (cl_isOne (by omega) hT w rfl (by decide) (fun a => ⟨fun e => absurd e (by decide), fun _ => ?_⟩) (fun a => ⟨fun _ => wQi_i (h0 a), fun e => absurd rfl e⟩))
  obtain ⟨a0, a1⟩ := ap_is_lt a.2 hT.2.1
  refine cl_add (k := 8) (o := 0) (w := 0) (a := some x1.toNatClampNeg) (b := none) (by omega) hT w a.1 (by omega) (by omega) (by omega) (cl_o a1) cl_o0 rfl rfl a0 rfl rfl fun M' t f => wQi_i (h1 a M' ?_ f)
  rw [cl_l1] at t; exact t
theorem cc_fold (hd : 5 ≤ d) (hT : tx_T M T N) (w : sm_wf T tc nt N) (h1 : ok_fold T N x1 x2 x3 → cl_N K z M L T N (tm_1 T 4 x1.toNatClampNeg x2 0 x3.toNatClampNeg 0)) (h0 : ¬ ok_fold T N x1 x2 x3 → K (-1) z M L) : wRunI (d, 0, 0) mX0_fold [.ref 1, .int x1, .int x2, .int x3] z M L K := by
  obtain ⟨d, rfl, hd⟩ := ak_deep hd
  refine fX0_fold_e (cl_isOne (by omega) hT w rfl (by decide) (fun a => ⟨fun e => absurd e (by decide), fun _ => ?_⟩) (fun a => ⟨fun _ => wQi_i (h0 fun q => a q.1), fun e => absurd rfl e⟩))
  refine cl_isIn (n := 6) (by decide) (fun b => ⟨fun e => absurd e (by decide), fun _ => ?_⟩) (fun b => ⟨fun _ => wQi_i (h0 fun q => b q.2.1), fun e => absurd rfl e⟩)
  refine cl_hasColumn hT w a.2.1 (fun c => ⟨fun e => absurd e (by decide), fun _ => ?_⟩) (fun c => ⟨fun _ => wQi_i (h0 fun q => c q.2.2), fun e => absurd rfl e⟩)
  obtain ⟨a0, a1⟩ := ap_is_lt a.2 hT.2.1
  obtain ⟨o0, o1⟩ := ap_nI b (by omega)
  have w8 := (w _ a1).2.1
  obtain ⟨c0, c1⟩ := ap_nI c (by omega)
  have aN := a.1
  refine cl_add (k := 4) (w := 0) (a := some x2.toNatClampNeg) (b := none) (by omega) hT w a.1 (by omega) (by omega) (by omega) (cl_o a1) cl_o0 rfl o0 a0 rfl rfl fun M' t f => ⟨vp_in_nI (by omega) (by omega), wQi_i (h1 ⟨a, b, c⟩ _ ?_ (ak_fr_up f (by omega) (by omega)))⟩
  rw [cl_l1] at t
  have e : vp_nar .byte x3.toInt8.toInt32 = nI x3.toNatClampNeg := by
    generalize x3.toNatClampNeg = j at c0 c1
    rw [c0]; exact ak_byte (by omega)
  rw [nI_clamp (by omega), e]
  exact cl_set9 t
theorem cc_logic (hd : 5 ≤ d) (hT : tx_T M T N) (w : sm_wf T tc nt N) (h1 : ok_logic T N x1 x2 x3 → cl_N K z M L T N (tm_logic T x1 x2 x3)) (h0 : ¬ ok_logic T N x1 x2 x3 → K (-1) z M L) : wRunI (d, 0, 0) mX0_logic [.ref 1, .int x1, .int x2, .int x3] z M L K := by
  obtain ⟨d, rfl, hd⟩ := ak_deep hd
  refine fX0_logic_e (cl_isIn (n := 3) (by decide) (fun b => ⟨fun e => absurd e (by decide), fun _ => ?_⟩) (fun b => ⟨fun _ => wQi_i (h0 fun q => b q.1), fun e => absurd rfl e⟩))
  refine cl_isOne (by omega) hT w rfl (by decide) (fun a => ⟨fun e => absurd e (by decide), fun _ => ?_⟩) (fun a => ⟨fun _ => wQi_i (h0 fun q => a q.2.1), fun e => absurd rfl e⟩)
  obtain ⟨a0, a1⟩ := ap_is_lt a.2 hT.2.1
  obtain ⟨o0, o1⟩ := ap_nI b (by omega)
  have le2 : ((2 : Int32) ≤ x1) ↔ 2 ≤ x1.toNatClampNeg := cl_le (c := 2) b (by omega) (by omega)
  refine ⟨fun h2 => ⟨fun _ => ?_, fun e => absurd h2 e⟩, fun h2 => ?_⟩
  · rw [le2] at h2
    have h1 := h1 ⟨b, a, fun q => by omega⟩
    unfold tm_logic at h1
    rw [if_neg (by omega)] at h1
    refine cl_add (k := 7) (w := 0) (a := some x2.toNatClampNeg) (b := none) (by omega) hT w a.1 (by omega) (by omega) (by omega) (cl_o a1) cl_o0 rfl o0 a0 rfl rfl fun M' t f => wQi_i (h1 M' ?_ f)
    rw [cl_l1] at t; exact t
  · have h2' := h2
    rw [le2] at h2'
    refine cl_is (by omega) hT w rfl (by decide) (fun c => ⟨fun e => absurd e (by decide), fun _ => ⟨fun e => absurd e h2, fun _ => ?_⟩⟩) (fun c => ⟨fun _ => wQi_i (h0 fun q => c (q.2.2 (by omega))), fun e => absurd rfl e⟩)
    obtain ⟨b0, b1⟩ := ap_is_lt c hT.2.1
    have h1 := h1 ⟨b, a, fun _ => c⟩
    unfold tm_logic at h1
    rw [if_pos (by omega)] at h1
    exact cl_add (k := 7) (w := 0) (a := some x2.toNatClampNeg) (b := some x3.toNatClampNeg) (by omega) hT w a.1 (by omega) (by omega) (by omega) (cl_o a1) (cl_o b1) rfl o0 a0 b0 rfl fun M' t f => wQi_i (h1 M' t f)
theorem cl_quant {x1 x2 x3 x4 : Int32} {k : Nat} (hd : 4 ≤ d) (hT : tx_T M T N) (w : sm_wf T tc nt N) (hk : k = 9 ∨ k = 10) (e1 : x1 = nI k) (h1 : ok_quant T N x2 x3 x4 → cl_N K z M L T N (tm_2 T k x2.toNatClampNeg x3 x4 0)) (h0 : ¬ ok_quant T N x2 x3 x4 → K (-1) z M L) : wRunI (d, 0, 0) mX0_quantified [.ref 1, .int x1, .int x2, .int x3, .int x4] z M L K := by
  obtain ⟨d, rfl, hd⟩ := ak_deep hd
  refine fX0_quantified_e (cl_are (by omega) hT w rfl rfl (by decide) (by decide) (fun a => ⟨fun e => absurd e (by decide), fun _ => ?_⟩) (fun a => ⟨fun _ => wQi_i (h0 fun q => a q.1.1), fun e => absurd rfl e⟩))
  refine cl_isIn (n := 5) (by decide) (fun b => ⟨fun e => absurd e (by decide), fun _ => ?_⟩) (fun b => ⟨fun _ => wQi_i (h0 fun q => b q.1.2), fun e => absurd rfl e⟩)
  have hN := hT.2.1
  obtain ⟨o0, o1⟩ := ap_nI b (by omega)
  obtain ⟨a0, a1⟩ := ap_is_lt a.2.1 hN
  obtain ⟨b0, b1⟩ := ap_is_lt a.2.2 hN
  have w8 := (w _ b1).2.1
  have ew : (M 10 x4.toNatClampNeg = 1) ↔ sm_w (T x4.toNatClampNeg) = 1 := by rw [(hT.2.2 _ b1).2.2.2.2.2.2.1]; exact nI_eq (b := 1) (by omega) (by omega)
  refine ⟨by rw [b0]; exact vp_in_nI (by omega) (by omega), fun c => ?_, fun c => wQi_i (h0 fun q => c (ew.mpr q.2))⟩
  have hh : cl_look T (some x3.toNatClampNeg) ||| cl_in T k (some x4.toNatClampNeg) = sm_l (T x3.toNatClampNeg) ||| sm_l (T x4.toNatClampNeg) := by rcases hk with rfl | rfl <;> rfl
  refine cl_add (k := k) (w := 0) (a := some x3.toNatClampNeg) (b := some x4.toNatClampNeg) (by omega) hT w a.1 (by omega) (by omega) (by omega) (cl_o a1) (cl_o b1) e1 o0 a0 b0 rfl fun M' t f => wQi_i (h1 ⟨⟨a, b⟩, ew.mp c⟩ M' ?_ f)
  rw [hh] at t; exact t
theorem cc_some (hd : 5 ≤ d) (hT : tx_T M T N) (w : sm_wf T tc nt N) (h1 : ok_quant T N x1 x2 x3 → cl_N K z M L T N (tm_2 T 9 x1.toNatClampNeg x2 x3 0)) (h0 : ¬ ok_quant T N x1 x2 x3 → K (-1) z M L) : wRunI (d, 0, 0) mX0_some [.ref 1, .int x1, .int x2, .int x3] z M L K := by
  obtain ⟨d, rfl, hd⟩ := ak_deep hd
  exact fX0_some_e (cl_quant (by omega) hT w (Or.inl rfl) rfl (fun q M' t f => wQi_i (h1 q M' t f)) (fun q => wQi_i (h0 q)))
theorem cc_each (hd : 5 ≤ d) (hT : tx_T M T N) (w : sm_wf T tc nt N) (h1 : ok_quant T N x1 x2 x3 → cl_N K z M L T N (tm_2 T 10 x1.toNatClampNeg x2 x3 0)) (h0 : ¬ ok_quant T N x1 x2 x3 → K (-1) z M L) : wRunI (d, 0, 0) mX0_each [.ref 1, .int x1, .int x2, .int x3] z M L K := by
  obtain ⟨d, rfl, hd⟩ := ak_deep hd
  exact fX0_each_e (cl_quant (by omega) hT w (Or.inr rfl) rfl (fun q M' t f => wQi_i (h1 q M' t f)) (fun q => wQi_i (h0 q)))
theorem cc_scan (hd : 5 ≤ d) (hT : tx_T M T N) (w : sm_wf T tc nt N) (hn : nt ≤ 6) (h11 : M 1 1 = nI nt) (hz : z.2.1 = nt) (hc : ∀ k, k < nt → M (667 + 2 * k) 0 = nI (tc k) ∧ tc k ≤ 4) (h1 : ok_scan N nt x1 → cl_N K z M L T N (tm_scan tc x1)) (h0 : ¬ ok_scan N nt x1 → K (-1) z M L) : wRunI (d, 0, 0) mX0_scan [.ref 1, .int x1] z M L K := by
  obtain ⟨d, rfl, hd⟩ := ak_deep hd
  refine fX0_scan_e (cl_hasRoom hT (fun a => ⟨fun e => absurd e (by decide), fun _ => ?_⟩) (fun a => ⟨fun _ => wQi_i (h0 fun q => a q.1), fun e => absurd rfl e⟩))
  refine cl_isTable hn h11 (fun b => ⟨fun e => absurd e (by decide), fun _ => ?_⟩) (fun b => ⟨fun _ => wQi_i (h0 fun q => b q.2), fun e => absurd rfl e⟩)
  obtain ⟨b0, b1⟩ := ap_nI b (by omega)
  have c4 := hc _ b1
  refine ⟨by rw [b0]; exact vp_in_nI (by omega) (by omega), am_bR_i (tb_ref (by omega)) (am_gd_i (by rw [tb_typ (by omega)]; rfl) ?_)⟩
  refine cl_add (k := 11) (o := 0) (w := tc x1.toNatClampNeg) (a := none) (b := none) (by omega) hT w a (by omega) (by omega) (by omega) cl_o0 cl_o0 rfl rfl rfl rfl c4.1 fun M' t f => ⟨vp_in_nI (by omega) (by omega), wQi_i (h1 ⟨a, b⟩ _ ?_ (ak_fr_up f (by omega) (by omega)))⟩
  rw [cl_l0] at t
  rw [nI_clamp (by omega)]
  exact cl_set8 t
theorem cc_filter (hd : 5 ≤ d) (hT : tx_T M T N) (w : sm_wf T tc nt N) (h1 : ok_filter T N x1 x2 → cl_N K z M L T N (tm_i T 12 0 x1 x2 (sm_w (T x1.toNatClampNeg)))) (h0 : ¬ ok_filter T N x1 x2 → K (-1) z M L) : wRunI (d, 0, 0) mX0_filter [.ref 1, .int x1, .int x2] z M L K := by
  obtain ⟨d, rfl, hd⟩ := ak_deep hd
  refine fX0_filter_e (cl_are (by omega) hT w rfl rfl (by decide) (by decide) (fun a => ⟨fun e => absurd e (by decide), fun _ => ?_⟩) (fun a => ⟨fun _ => wQi_i (h0 fun q => a q.1), fun e => absurd rfl e⟩))
  refine cl_fits hT w a.2.1.1 a.2.2.1 (fun b => ⟨fun e => absurd e (by decide), fun _ => ?_⟩) (fun b => ⟨fun _ => wQi_i (h0 fun q => b q.2), fun e => absurd rfl e⟩)
  have hN := hT.2.1
  obtain ⟨a0, a1⟩ := ap_is_lt a.2.1 hN
  obtain ⟨b0, b1⟩ := ap_is_lt a.2.2 hN
  have w8 := (w _ a1).2.1
  refine ⟨by rw [a0]; exact vp_in_nI (by omega) (by omega), ?_⟩
  exact cl_add (k := 12) (o := 0) (w := sm_w (T x1.toNatClampNeg)) (a := some x1.toNatClampNeg) (b := some x2.toNatClampNeg) (by omega) hT w a.1 (by omega) (by omega) (by omega) (cl_o a1) (cl_o b1) rfl rfl a0 b0 (hT.2.2 _ a1).2.2.2.2.2.2.1 fun M' t f => wQi_i (h1 ⟨a, b⟩ M' t f)
theorem cc_more (hd : 5 ≤ d) (hT : tx_T M T N) (w : sm_wf T tc nt N) (h1 : ok_more T N x1 x2 → cl_N K z M L T N (tm_i T 13 0 x1 x2 (sm_w (T x1.toNatClampNeg) + 1))) (h0 : ¬ ok_more T N x1 x2 → K (-1) z M L) : wRunI (d, 0, 0) mX0_more [.ref 1, .int x1, .int x2] z M L K := by
  obtain ⟨d, rfl, hd⟩ := ak_deep hd
  refine fX0_more_e (cl_are (by omega) hT w rfl rfl (by decide) (by decide) (fun a => ⟨fun e => absurd e (by decide), fun _ => ?_⟩) (fun a => ⟨fun _ => ⟨fun _ => wQi_i (h0 fun q => a q.1), fun e => absurd rfl e⟩, fun e => absurd rfl e⟩))
  refine cl_fits hT w a.2.1.1 a.2.2.1 (fun b => ⟨fun e => absurd e (by decide), fun _ => ?_⟩) (fun b => ⟨fun _ => ⟨fun _ => wQi_i (h0 fun q => b q.2.1), fun e => absurd rfl e⟩, fun e => absurd rfl e⟩)
  have hN := hT.2.1
  obtain ⟨a0, a1⟩ := ap_is_lt a.2.1 hN
  obtain ⟨b0, b1⟩ := ap_is_lt a.2.2 hN
  have w8 := (w _ a1).2.1
  have ew := (hT.2.2 _ a1).2.2.2.2.2.2.1
  have le : ((8 : Int32) ≤ M 10 x1.toNatClampNeg) ↔ 8 ≤ sm_w (T x1.toNatClampNeg) := by rw [ew]; exact nI_leI (a := 8) (by omega) (by omega)
  have hin : vp_in x1 120 := by rw [a0]; exact vp_in_nI (by omega) (by omega)
  refine ⟨hin, fun c => ⟨fun _ => wQi_i (h0 fun q => ?_), fun e => absurd rfl e⟩, fun c => ⟨fun e => absurd e (by decide), fun _ => ⟨hin, ?_⟩⟩⟩
  · rw [le] at c; have := q.2.2; omega
  · rw [le] at c
    exact cl_add (k := 13) (o := 0) (w := sm_w (T x1.toNatClampNeg) + 1) (a := some x1.toNatClampNeg) (b := some x2.toNatClampNeg) (by omega) hT w a.1 (by omega) (by omega) (by omega) (cl_o a1) (cl_o b1) rfl rfl a0 b0 (by rw [ew, nI_1]) fun M' t f => wQi_i (h1 ⟨a, b, by omega⟩ M' t f)
theorem cl_only {a0 : x1 = nI x1.toNatClampNeg} (hd : 4 ≤ d) (hT : tx_T M T N) (w : sm_wf T tc nt N) (ha : ok_one T N 2 x1) (hn : vp_in x3 9 ∧ x3 ≠ 0) (h1 : ok_only T N x1 x2 x3 → cl_N K z M L T N (tm_1 T 14 0 x1 x2 x3.toNatClampNeg x3.toNatClampNeg)) (h0 : ¬ ok_only T N x1 x2 x3 → K (-1) z M L) : ∀ (m k : Nat), k + m = x3.toNatClampNeg → (∀ j, j < k → sm_col x2 j < sm_w (T x1.toNatClampNeg)) → wRun (d + 1, 0, 0) mX0_only 24 [some (.ref 1), some (.int x1), some (.int x2), some (.int x3), some (.int (nI k))] [] z M L (wQi K) := by
  obtain ⟨n0, n1⟩ := ap_nI hn.1 (by omega)
  have aN := ha.1
  obtain ⟨-, a1⟩ := ap_is_lt ha.2 hT.2.1
  have lek : ∀ k, k ≤ x3.toNatClampNeg → (x3 ≤ nI k ↔ x3.toNatClampNeg ≤ k) := fun k hk => by
    generalize x3.toNatClampNeg = j at n0 n1 hk
    rw [n0]; exact nI_leI (by omega) (by omega)
  intro m
  induction m with
  | zero =>
    intro k hk hc
    refine fX0_only_24 ⟨fun _ => ?_, fun h => absurd ((lek k (by omega)).mpr (by omega)) h⟩
    have e : vp_nar .byte x3.toInt8.toInt32 = nI x3.toNatClampNeg := by
      generalize x3.toNatClampNeg = j at n0 n1
      rw [n0]; exact ak_byte (by omega)
    refine cl_add (k := 14) (o := 0) (w := x3.toNatClampNeg) (a := some x1.toNatClampNeg) (b := none) (by omega) hT w ha.1 (by omega) (by omega) (by omega) (cl_o a1) cl_o0 rfl rfl a0 rfl n0 fun M' t f => ⟨vp_in_nI (by omega) (by omega), vp_in_nI (by omega) (by omega), wQi_i (h1 ⟨ha, hn, fun j hj => hc j (by omega)⟩ _ ?_ (ak_fr_up (ak_fr_up f (by omega) (by omega)) (by omega) (by omega)))⟩
    rw [cl_l1] at t
    rw [nI_clamp (by omega), e]
    exact cl_set9 (cl_set8 t)
  | succ m ih =>
    intro k hk hc
    have ec : ((x2 >>> ((4 * nI k) &&& 31)) &&& 15) = nI (sm_col x2 k) := by
      unfold sm_col
      rw [ak_n4, pk_mul]
      obtain ⟨j, hj, e⟩ := pk_andE (x2 >>> (nI (4 * k) &&& 31)) (m := 15) 4 (by decide)
      rw [e, nI_clamp (by omega)]
    refine fX0_only_24 ⟨fun h => absurd ((lek k (by omega)).mp h) (by omega), fun _ => ?_⟩
    refine cl_hasColumn hT w ha.2.1 (fun c => ⟨fun e => absurd e (by decide), fun _ => ?_⟩) (fun c => ⟨fun _ => wQi_i (h0 fun q => c ?_), fun e => absurd rfl e⟩)
    · rw [ec] at c
      have l16 : sm_col x2 k < 16 := by
        unfold sm_col
        obtain ⟨j, hj, e⟩ := pk_andE (x2 >>> (nI (4 * k) &&& 31)) (m := 15) 4 (by decide)
        rw [e, nI_clamp (by omega)]; omega
      have w8 := (w _ a1).2.1
      obtain ⟨c0, c1⟩ := ap_nI c (by omega)
      rw [nI_clamp (by omega)] at c1
      rw [nI_1]
      exact ih (k + 1) (by omega) fun j hj => by
        by_cases q : j = k
        · rw [q]; exact c1
        · exact hc j (by omega)
    · have := q.2.2 k (by omega)
      have w8 := (w _ a1).2.1
      rw [ec]; exact vp_in_nI this (by omega)
theorem cc_only (hd : 5 ≤ d) (hT : tx_T M T N) (w : sm_wf T tc nt N) (h1 : ok_only T N x1 x2 x3 → cl_N K z M L T N (tm_1 T 14 0 x1 x2 x3.toNatClampNeg x3.toNatClampNeg)) (h0 : ¬ ok_only T N x1 x2 x3 → K (-1) z M L) : wRunI (d, 0, 0) mX0_only [.ref 1, .int x1, .int x2, .int x3] z M L K := by
  obtain ⟨d, rfl, hd⟩ := ak_deep hd
  refine fX0_only_e (cl_isOne (by omega) hT w rfl (by decide) (fun a => ⟨fun e => absurd e (by decide), fun _ => ?_⟩) (fun a => ⟨fun _ => wQi_i (h0 fun q => a q.1), fun e => absurd rfl e⟩))
  refine cl_isIn1 (n := 9) (by decide) (fun b => ⟨fun e => absurd e (by decide), fun _ => ?_⟩) (fun b => ⟨fun _ => wQi_i (h0 fun q => b q.2.1), fun e => absurd rfl e⟩)
  exact cl_only (a0 := (ap_is_lt a.2 hT.2.1).1) (by omega) hT w a b h1 h0 _ 0 (Nat.zero_add _) (fun j hj => by omega)
theorem cc_pairs (hd : 5 ≤ d) (hT : tx_T M T N) (w : sm_wf T tc nt N) (h1 : ok_pairs T N x1 x2 → cl_N K z M L T N (tm_2 T 15 0 x1 x2 (sm_w (T x1.toNatClampNeg) + sm_w (T x2.toNatClampNeg)))) (h0 : ¬ ok_pairs T N x1 x2 → K (-1) z M L) : wRunI (d, 0, 0) mX0_pairs [.ref 1, .int x1, .int x2] z M L K := by
  obtain ⟨d, rfl, hd⟩ := ak_deep hd
  refine fX0_pairs_e (cl_are (by omega) hT w rfl rfl (by decide) (by decide) (fun a => ⟨fun e => absurd e (by decide), fun _ => ?_⟩) (fun a => ⟨fun _ => wQi_i (h0 fun q => a q.1), fun e => absurd rfl e⟩))
  refine cl_isNarrow hT w a.2.1.1 a.2.2.1 (fun b => ⟨fun e => absurd e (by decide), fun _ => ?_⟩) (fun b => ⟨fun _ => wQi_i (h0 fun q => b q.2), fun e => absurd rfl e⟩)
  have hN := hT.2.1
  obtain ⟨a0, a1⟩ := ap_is_lt a.2.1 hN
  obtain ⟨b0, b1⟩ := ap_is_lt a.2.2 hN
  have b' : sm_w (T x1.toNatClampNeg) + sm_w (T x2.toNatClampNeg) ≤ 8 := b
  refine ⟨by rw [a0]; exact vp_in_nI (by omega) (by omega), by rw [b0]; exact vp_in_nI (by omega) (by omega), ?_⟩
  exact cl_add (k := 15) (o := 0) (w := sm_w (T x1.toNatClampNeg) + sm_w (T x2.toNatClampNeg)) (a := some x1.toNatClampNeg) (b := some x2.toNatClampNeg) (by omega) hT w a.1 (by omega) (by omega) (by omega) (cl_o a1) (cl_o b1) rfl rfl a0 b0 (by rw [(hT.2.2 _ a1).2.2.2.2.2.2.1, (hT.2.2 _ b1).2.2.2.2.2.2.1, nI_add]) fun M' t f => wQi_i (h1 ⟨a, b⟩ M' t f)
theorem cc_apply (hd : 5 ≤ d) (hT : tx_T M T N) (w : sm_wf T tc nt N) (h1 : ok_apply T N x1 x2 x3 → cl_N K z M L T N (tm_apply T x1 x2 x3)) (h0 : ¬ ok_apply T N x1 x2 x3 → K (-1) z M L) : wRunI (d, 0, 0) mX0_apply [.ref 1, .int x1, .int x2, .int x3] z M L K := by
  obtain ⟨d, rfl, hd⟩ := ak_deep hd
  refine fX0_apply_e (cl_are (by omega) hT w rfl rfl (by decide) (by decide) (fun a => ⟨fun e => absurd e (by decide), fun _ => ?_⟩) (fun a => ⟨fun _ => wQi_i (h0 fun q => a q.1.1), fun e => absurd rfl e⟩))
  refine cl_isIn (n := 4) (by decide) (fun b => ⟨fun e => absurd e (by decide), fun _ => ?_⟩) (fun b => ⟨fun _ => wQi_i (h0 fun q => b q.1.2), fun e => absurd rfl e⟩)
  refine cl_fits hT w a.2.1.1 a.2.2.1 (fun c => ⟨fun e => absurd e (by decide), fun _ => ?_⟩) (fun c => ⟨fun _ => wQi_i (h0 fun q => c q.2.1), fun e => absurd rfl e⟩)
  have hN := hT.2.1
  obtain ⟨a0, a1⟩ := ap_is_lt a.2.1 hN
  obtain ⟨b0, b1⟩ := ap_is_lt a.2.2 hN
  obtain ⟨o0, o1⟩ := ap_nI b (by omega)
  have w8 := (w _ a1).2.1
  have le2 : ((2 : Int32) ≤ x1) ↔ 2 ≤ x1.toNatClampNeg := cl_le (c := 2) b (by omega) (by omega)
  have in2 : vp_in x2 120 := by rw [a0]; exact vp_in_nI (by omega) (by omega)
  have in3 : vp_in x3 120 := by rw [b0]; exact vp_in_nI (by omega) (by omega)
  refine ⟨fun h2 => ⟨in2, fun _ => ?_, fun e => absurd h2 e⟩, fun h2 => ?_⟩
  · rw [le2] at h2
    have h1 := h1 ⟨⟨a, b⟩, c, fun q => by omega⟩
    unfold tm_apply at h1
    rw [if_neg (by omega)] at h1
    exact cl_add (k := 16) (w := sm_w (T x2.toNatClampNeg)) (a := some x2.toNatClampNeg) (b := some x3.toNatClampNeg) (by omega) hT w a.1 (by omega) (by omega) (by omega) (cl_o a1) (cl_o b1) rfl o0 a0 b0 (by rw [(hT.2.2 _ a1).2.2.2.2.2.2.1, ak_n0, nI_add]; rfl) fun M' t f => wQi_i (h1 M' t f)
  · have h2' := h2
    rw [le2] at h2'
    refine cl_isNarrow hT w a.2.1.1 a.2.2.1 (fun e => ⟨fun q => absurd q (by decide), fun _ => ⟨in2, fun q => absurd q h2, fun _ => ⟨in3, ?_⟩⟩⟩) (fun e => ⟨fun _ => wQi_i (h0 fun q => e (q.2.2 (by omega))), fun q => absurd rfl q⟩)
    have h1 := h1 ⟨⟨a, b⟩, c, fun _ => e⟩
    have e' : sm_w (T x2.toNatClampNeg) + sm_w (T x3.toNatClampNeg) ≤ 8 := e
    unfold tm_apply at h1
    rw [if_pos (by omega)] at h1
    exact cl_add (k := 16) (w := sm_w (T x2.toNatClampNeg) + sm_w (T x3.toNatClampNeg)) (a := some x2.toNatClampNeg) (b := some x3.toNatClampNeg) (by omega) hT w a.1 (by omega) (by omega) (by omega) (cl_o a1) (cl_o b1) rfl o0 a0 b0 (by rw [(hT.2.2 _ a1).2.2.2.2.2.2.1, (hT.2.2 _ b1).2.2.2.2.2.2.1, nI_add]) fun M' t f => wQi_i (h1 M' t f)
theorem cc_both (hd : 5 ≤ d) (hT : tx_T M T N) (w : sm_wf T tc nt N) (h1 : ok_both T N x1 x2 x3 → cl_N K z M L T N (tm_2 T 17 x1.toNatClampNeg x2 x3 (sm_w (T x2.toNatClampNeg)))) (h0 : ¬ ok_both T N x1 x2 x3 → K (-1) z M L) : wRunI (d, 0, 0) mX0_both [.ref 1, .int x1, .int x2, .int x3] z M L K := by
  obtain ⟨d, rfl, hd⟩ := ak_deep hd
  refine fX0_both_e (cl_are (by omega) hT w rfl rfl (by decide) (by decide) (fun a => ⟨fun e => absurd e (by decide), fun _ => ?_⟩) (fun a => ⟨fun _ => ⟨fun _ => wQi_i (h0 fun q => a q.1.1), fun e => absurd rfl e⟩, fun e => absurd rfl e⟩))
  refine cl_isIn (n := 3) (by decide) (fun b => ⟨fun e => absurd e (by decide), fun _ => ?_⟩) (fun b => ⟨fun _ => ⟨fun _ => wQi_i (h0 fun q => b q.1.2), fun e => absurd rfl e⟩, fun e => absurd rfl e⟩)
  have hN := hT.2.1
  obtain ⟨a0, a1⟩ := ap_is_lt a.2.1 hN
  obtain ⟨b0, b1⟩ := ap_is_lt a.2.2 hN
  obtain ⟨o0, o1⟩ := ap_nI b (by omega)
  have wa := (w _ a1).2.1
  have wb := (w _ b1).2.1
  have ea := (hT.2.2 _ a1).2.2.2.2.2.2.1
  have ew : (M 10 x2.toNatClampNeg = M 10 x3.toNatClampNeg) ↔ sm_w (T x2.toNatClampNeg) = sm_w (T x3.toNatClampNeg) := by rw [ea, (hT.2.2 _ b1).2.2.2.2.2.2.1]; exact nI_eq (by omega) (by omega)
  have in2 : vp_in x2 120 := by rw [a0]; exact vp_in_nI (by omega) (by omega)
  have in3 : vp_in x3 120 := by rw [b0]; exact vp_in_nI (by omega) (by omega)
  refine ⟨in2, in3, fun c => ⟨fun e => absurd e (by decide), fun _ => ⟨in2, ?_⟩⟩, fun c => ⟨fun _ => wQi_i (h0 fun q => c (ew.mpr q.2)), fun e => absurd rfl e⟩⟩
  exact cl_add (k := 17) (w := sm_w (T x2.toNatClampNeg)) (a := some x2.toNatClampNeg) (b := some x3.toNatClampNeg) (by omega) hT w a.1 (by omega) (by omega) (by omega) (cl_o a1) (cl_o b1) rfl o0 a0 b0 ea fun M' t f => wQi_i (h1 ⟨⟨a, b⟩, ew.mp c⟩ M' t f)
theorem cc_once (hd : 5 ≤ d) (hT : tx_T M T N) (w : sm_wf T tc nt N) (h1 : ok_one T N 2 x1 → cl_N K z M L T N (tm_1 T 18 0 x1 0 0 (sm_w (T x1.toNatClampNeg)))) (h0 : ¬ ok_one T N 2 x1 → K (-1) z M L) : wRunI (d, 0, 0) mX0_once [.ref 1, .int x1] z M L K := by
  obtain ⟨d, rfl, hd⟩ := ak_deep hd
  refine fX0_once_e (cl_isOne (by omega) hT w rfl (by decide) (fun a => ⟨fun e => absurd e (by decide), fun _ => ?_⟩) (fun a => ⟨fun _ => wQi_i (h0 a), fun e => absurd rfl e⟩))
  have hN := hT.2.1
  obtain ⟨a0, a1⟩ := ap_is_lt a.2 hN
  have w8 := (w _ a1).2.1
  refine ⟨by rw [a0]; exact vp_in_nI (by omega) (by omega), ?_⟩
  refine cl_add (k := 18) (o := 0) (w := sm_w (T x1.toNatClampNeg)) (a := some x1.toNatClampNeg) (b := none) (by omega) hT w a.1 (by omega) (by omega) (by omega) (cl_o a1) cl_o0 rfl rfl a0 rfl (hT.2.2 _ a1).2.2.2.2.2.2.1 fun M' t f => wQi_i (h1 a M' ?_ f)
  rw [cl_l1] at t; exact t
theorem cc_first (hd : 5 ≤ d) (hT : tx_T M T N) (w : sm_wf T tc nt N) (h1 : ok_first T N x1 x2 → cl_N K z M L T N (tm_1 T 19 0 x1 x2 0 (sm_w (T x1.toNatClampNeg)))) (h0 : ¬ ok_first T N x1 x2 → K (-1) z M L) : wRunI (d, 0, 0) mX0_first [.ref 1, .int x1, .int x2] z M L K := by
  obtain ⟨d, rfl, hd⟩ := ak_deep hd
  refine fX0_first_e (cl_isOne (by omega) hT w rfl (by decide) (fun a => ⟨fun e => absurd e (by decide), fun _ => ?_⟩) (fun a => ⟨fun _ => wQi_i (h0 fun q => a q.1), fun e => absurd rfl e⟩))
  refine cl_isIn1 (n := 25) (by decide) (fun b => ⟨fun e => absurd e (by decide), fun _ => ?_⟩) (fun b => ⟨fun _ => wQi_i (h0 fun q => b q.2), fun e => absurd rfl e⟩)
  have hN := hT.2.1
  obtain ⟨a0, a1⟩ := ap_is_lt a.2 hN
  have w8 := (w _ a1).2.1
  have aN := a.1
  refine ⟨by rw [a0]; exact vp_in_nI (by omega) (by omega), ?_⟩
  refine cl_add (k := 19) (o := 0) (w := sm_w (T x1.toNatClampNeg)) (a := some x1.toNatClampNeg) (b := none) (by omega) hT w a.1 (by omega) (by omega) (by omega) (cl_o a1) cl_o0 rfl rfl a0 rfl (hT.2.2 _ a1).2.2.2.2.2.2.1 fun M' t f => ⟨vp_in_nI (by omega) (by omega), wQi_i (h1 ⟨a, b⟩ _ ?_ (ak_fr_up f (by omega) (by omega)))⟩
  rw [cl_l1] at t
  rw [nI_clamp (by omega)]
  exact cl_set8 t
theorem cl_8 : ∀ g, g < 256 → (nI (sm_ks (nI g)).length = 8 ↔ g = 255) := by decide +kernel
theorem cl_ks : ∀ g, g < 256 → (sm_ks (nI g)).length ≤ 8 := by decide +kernel
theorem cc_groups (hd : 5 ≤ d) (hT : tx_T M T N) (w : sm_wf T tc nt N) (h1 : ok_groups T N x1 x2 x3 x4 → cl_N K z M L T N (tm_groups T x1 x2 x3 x4)) (h0 : ¬ ok_groups T N x1 x2 x3 x4 → K (-1) z M L) : wRunI (d, 0, 0) mX0_groups [.ref 1, .int x1, .int x2, .int x3, .int x4] z M L K := by
  obtain ⟨d, rfl, hd⟩ := ak_deep hd
  refine fX0_groups_e (cl_isOne (by omega) hT w rfl (by decide) (fun a => ⟨fun e => absurd e (by decide), fun _ => ?_⟩) (fun a => ⟨fun _ => wQi_i (h0 fun q => a q.1), fun e => absurd rfl e⟩))
  refine cl_isIn (n := 6) (by decide) (fun b => ⟨fun e => absurd e (by decide), fun _ => ?_⟩) (fun b => ⟨fun _ => wQi_i (h0 fun q => b q.2.1), fun e => absurd rfl e⟩)
  refine cl_hasColumn hT w a.2.1 (fun c => ⟨fun e => absurd e (by decide), fun _ => ?_⟩) (fun c => ⟨fun _ => wQi_i (h0 fun q => c q.2.2.1), fun e => absurd rfl e⟩)
  have hN := hT.2.1
  have aN := a.1
  obtain ⟨a0, a1⟩ := ap_is_lt a.2 hN
  have w8 := (w _ a1).2.1
  have p8 : 2 ^ sm_w (T x1.toNatClampNeg) ≤ 2 ^ 8 := Nat.pow_le_pow_right (by omega) w8
  have p0 : 0 < 2 ^ sm_w (T x1.toNatClampNeg) := Nat.pow_pos (by omega)
  have ew := (hT.2.2 _ a1).2.2.2.2.2.2.1
  obtain ⟨o0, o1⟩ := ap_nI b (by omega)
  obtain ⟨c0, c1⟩ := ap_nI c (by omega)
  refine ⟨by rw [a0]; exact vp_in_nI (by omega) (by omega), ?_⟩
  rw [ew, cl_pow _ w8, ak_n1, pk_sub p0]
  refine cl_isIn (n := 2 ^ sm_w (T x1.toNatClampNeg)) (by rw [nI_toInt (by omega)]; omega) (fun g => ⟨fun e => absurd e (by decide), fun _ => ?_⟩) (fun g => ⟨fun _ => wQi_i (h0 fun q => g q.2.2.2.1), fun e => absurd rfl e⟩)
  obtain ⟨g0, g1⟩ := ap_nI g (by omega)
  have bc : ∀ {K' : Int32 → wd_Z → wd_M → wd_L → Prop}, K' (nI (sm_ks x2).length) z M L → wRunI (d, 0, 0) mJ0_bitCount [.int x2] z M L K' := fun {K'} h => by
    rw [g0] at h ⊢
    exact cl_bitCount (by omega) (by rw [← g0] at h ⊢; exact h)
  have e8 : (nI (sm_ks x2).length = 8) ↔ x2.toNatClampNeg = 255 := by
    generalize x2.toNatClampNeg = j at g0 g1
    rw [g0]; exact cl_8 j (by omega)
  have l8 : (sm_ks x2).length ≤ 8 := by
    generalize x2.toNatClampNeg = j at g0 g1
    rw [g0]; exact cl_ks j (by omega)
  refine bc ⟨fun e => wQi_i (h0 fun q => q.2.2.2.2 (e8.mp e)), fun e => bc ?_⟩
  rw [e8] at e
  refine cl_add (k := 20) (w := (sm_ks x2).length + 1) (a := some x1.toNatClampNeg) (b := none) (by omega) hT w a.1 (by omega) (by omega) (by omega) (cl_o a1) cl_o0 rfl o0 a0 rfl (nI_1 _) fun M' t f => ⟨vp_in_nI (by omega) (by omega), vp_in_nI (by omega) (by omega), wQi_i (h1 ⟨a, b, c, g, e⟩ _ ?_ (ak_fr_up (ak_fr_up f (by omega) (by omega)) (by omega) (by omega)))⟩
  rw [cl_l1] at t
  have e : vp_nar .byte x4.toInt8.toInt32 = nI x4.toNatClampNeg := by
    generalize x4.toNatClampNeg = j at c0 c1
    rw [c0]; exact ak_byte (by omega)
  rw [nI_clamp (by omega), e]
  exact cl_set9 (cl_set8 t)
end CC
