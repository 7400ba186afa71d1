/-! CALLS of ApplyFree: leaves, a new term -/
theorem cl_vp {x : Int32} {n : Nat} (hn : n < 2 ^ 31) (h : ¬ x < 0) (h' : ¬ nI n ≤ x) : vp_in x n := by
  obtain ⟨j, hj, rfl⟩ := nI_of h
  rw [nI_leI hn hj] at h'
  exact vp_in_nI (by omega) hn
theorem cl_or (a b : Nat) : nI a ||| nI b = nI (a ||| b) := by
  refine Int32.toBitVec_inj.mp ?_
  show BitVec.ofNat 32 a ||| BitVec.ofNat 32 b = BitVec.ofNat 32 (a ||| b)
  refine BitVec.eq_of_toNat_eq ?_
  rw [BitVec.toNat_or, BitVec.toNat_ofNat, BitVec.toNat_ofNat, BitVec.toNat_ofNat, Nat.or_mod_two_pow]
theorem cl_short {n : Nat} (h : n < 128) : vp_nar .short (nI n).toInt16.toInt32 = nI n := by
  rw [pk_vs]
  have : ∀ n, n < 128 → (nI n).toInt16.toInt32 = nI n := by decide
  exact this n h
theorem cl_shortO {o : Option Nat} (h : ∀ n, o = some n → n < 128) : vp_nar .short (ak_o o).toInt16.toInt32 = ak_o o := by
  cases o with
  | none => rw [pk_vs]; rfl
  | some n => exact cl_short (h n rfl)
section CL
variable {d : Nat} {z : wd_Z} {L : wd_L} {M : wd_M} {K : Int32 → wd_Z → wd_M → wd_L → Prop}
theorem cl_isIn {x b : Int32} {n : Nat} (hb : b.toInt + 1 = n) (h1 : vp_in x n → K 1 z M L) (h0 : ¬ vp_in x n → K 0 z M L) : wRunI (d, 0, 0) mX0_isIn [.int x, .int 0, .int b] z M L K := by
  have e0 : (0 : Int32).toInt = 0 := rfl
  refine fX0_isIn_e ⟨fun h => am_gz0 (wQi_i (h0 fun q => ?_)), fun h => ⟨fun h' => am_gz0 (wQi_i (h0 fun q => ?_)), fun h' => am_gz1 (wQi_i (h1 ?_))⟩⟩
  · rw [vp_in_iff] at q; rw [sm_i_lt] at h; omega
  · rw [vp_in_iff] at q; rw [sm_i_lt] at h'; omega
  · rw [vp_in_iff]; rw [sm_i_lt] at h h'; omega
theorem cl_isIn1 {x b : Int32} {n : Nat} (hb : b.toInt + 1 = n) (h1 : vp_in x n ∧ x ≠ 0 → K 1 z M L) (h0 : ¬ (vp_in x n ∧ x ≠ 0) → K 0 z M L) : wRunI (d, 0, 0) mX0_isIn [.int x, .int 1, .int b] z M L K := by
  have e0 : (0 : Int32).toInt = 0 := rfl
  have e1 : (1 : Int32).toInt = 1 := rfl
  refine fX0_isIn_e ⟨fun h => am_gz0 (wQi_i (h0 fun q => ?_)), fun h => ⟨fun h' => am_gz0 (wQi_i (h0 fun q => ?_)), fun h' => am_gz1 (wQi_i (h1 ?_))⟩⟩
  · rw [vp_in_iff, ne_eq, sm_i_eq] at q; rw [sm_i_lt] at h; omega
  · rw [vp_in_iff] at q; rw [sm_i_lt] at h'; omega
  · rw [vp_in_iff, ne_eq, sm_i_eq]; rw [sm_i_lt] at h h'; omega
theorem cl_sort {k : Nat} (hk : k ≤ 20) (h : K (nI (sm_sort k)) z M L) : wRunI (d, 0, 0) mX1_sort [.int (nI k)] z M L K := by
  unfold sm_sort at h
  refine fX1_sort_e ⟨fun h4 => ⟨fun h10 => wQi_i ?_, fun h10 => wQi_i ?_⟩, fun h4 => wQi_i ?_⟩
  · rw [ak_n10, nI_ltI (by omega) (by omega)] at h10
    rw [if_neg (by omega), if_neg (by omega)] at h; exact h
  · rw [ak_n4, nI_ltI (by omega) (by omega)] at h4
    rw [ak_n10, nI_ltI (by omega) (by omega)] at h10
    rw [if_neg (by omega), if_pos (by omega)] at h; exact h
  · rw [ak_n4, nI_ltI (by omega) (by omega)] at h4
    rw [if_pos (by omega)] at h; exact h
theorem cl_isTable {nt : Nat} {x : Int32} (hn : nt ≤ 6) (hT : M 1 1 = nI nt) (h1 : vp_in x nt → K 1 z M L) (h0 : ¬ vp_in x nt → K 0 z M L) : wRunI (d, 0, 0) mX0_isTable [.ref 1, .int x] z M L K := by
  refine fX0_isTable_e ⟨fun h => am_gz0 (wQi_i (h0 fun q => q (Or.inl h))), fun h => ⟨fun h' => am_gz0 (wQi_i (h0 fun q => ?_)), fun h' => am_gz1 (wQi_i (h1 ?_))⟩⟩
  · rw [hT] at h'
    obtain ⟨j, hj, rfl⟩ := vp_in_of q (by omega)
    exact absurd h' (nI_ge hj (by omega))
  · rw [hT] at h'
    exact cl_vp (by omega) h h'
theorem cl_isInside {k : Nat} (hk : k ≤ 20) (h : K (if sm_inside k then 1 else 0) z M L) : wRunI (d, 0, 0) mX1_isInside [.int (nI k)] z M L K := by
  unfold sm_inside at h
  have e12 : (nI k = 12) ↔ k = 12 := nI_eq (b := 12) (by omega) (by omega)
  have e13 : (nI k = 13) ↔ k = 13 := nI_eq (b := 13) (by omega) (by omega)
  have e16 : (nI k = 16) ↔ k = 16 := nI_eq (b := 16) (by omega) (by omega)
  refine fX1_isInside_e ⟨fun q => am_gz1 (wQi_i ?_), fun q => ⟨fun q1 => am_gz1 (wQi_i ?_), fun q1 => ⟨fun q2 => am_gz1 (wQi_i ?_), fun q2 => am_gz0 (wQi_i ?_)⟩⟩⟩
  · rw [if_pos (by rw [e12.mp q]; rfl)] at h; exact h
  · rw [if_pos (by rw [e13.mp q1]; rfl)] at h; exact h
  · rw [if_pos (by rw [e16.mp q2]; rfl)] at h; exact h
  · rw [if_neg (by
      rw [e12] at q; rw [e13] at q1; rw [e16] at q2
      simp [q, q1, q2])] at h
    exact h
section TT
variable {T : Nat → sm_T} {N : Nat} {tc : Nat → Nat} {nt : Nat}
theorem cl_hasRoom (hT : tx_T M T N) (h1 : N < 120 → K 1 z M L) (h0 : ¬ N < 120 → K 0 z M L) : wRunI (d, 0, 0) mX1_hasRoom [.ref 3] z M L K := by
  have hN := hT.2.1
  have e : ((120 : Int32) ≤ M 3 11) ↔ 120 ≤ N := by rw [hT.1]; exact nI_leI (a := 120) (by omega) (by omega)
  refine fX1_hasRoom_e ⟨fun h => am_gz0 (wQi_i (h0 (by rw [e] at h; omega))), fun h => am_gz1 (wQi_i (h1 (by rw [e] at h; omega)))⟩
theorem cl_is {x y : Int32} {s : Nat} (hd : 1 ≤ d) (hT : tx_T M T N) (w : sm_wf T tc nt N) (hy : y = nI s) (hs : s ≤ 2) (h1 : ap_is T N x s → K 1 z M L) (h0 : ¬ ap_is T N x s → K 0 z M L) : wRunI (d, 0, 0) mX1_is [.ref 3, .int x, .int y] z M L K := by
  obtain ⟨d, rfl, hd⟩ := ak_deep hd
  have hN := hT.2.1
  by_cases hx : vp_in x N
  · obtain ⟨j, hj, rfl⟩ := vp_in_of hx (by omega)
    have k20 := sm_k20 (w j hj).1
    refine fX1_is_e ⟨fun h => absurd h (nI_pos (by omega)), fun _ => ⟨fun h => absurd (by rw [← hT.1]; exact h) (nI_ge hj (by omega)), fun _ => ⟨vp_in_nI (by omega) (by omega), ?_⟩⟩⟩
    rw [nI_clamp (by omega), (hT.2.2 j hj).1]
    have e : (nI (sm_sort (sm_k (T j))) = y) ↔ sm_sort (sm_k (T j)) = s := by
      rw [hy]
      refine nI_eq ?_ (by omega)
      unfold sm_sort
      split
      · omega
      · split <;> omega
    refine cl_sort k20 ⟨fun q => am_gz1 (wQi_i (h1 ⟨hx, ?_⟩)), fun q => am_gz0 (wQi_i (h0 fun p => q ?_))⟩
    · rw [nI_clamp (by omega)]; exact e.mp q
    · rw [ap_is, nI_clamp (by omega)] at p; exact e.mpr p.2
  · refine fX1_is_e ⟨fun h => am_gz0 (wQi_i (h0 fun q => hx q.1)), fun h => ⟨fun h' => am_gz0 (wQi_i (h0 fun q => hx q.1)), fun h' => absurd ?_ hx⟩⟩
    rw [hT.1] at h'
    exact cl_vp (by omega) h h'
theorem cl_are {x1 x2 x3 x4 : Int32} {s1 s2 : Nat} (hd : 2 ≤ d) (hT : tx_T M T N) (w : sm_wf T tc nt N) (e1 : x2 = nI s1) (e2 : x4 = nI s2) (hs1 : s1 ≤ 2) (hs2 : s2 ≤ 2) (h1 : ok_two T N s1 s2 x1 x3 → K 1 z M L) (h0 : ¬ ok_two T N s1 s2 x1 x3 → K 0 z M L) : wRunI (d, 0, 0) mX0_are [.ref 1, .int x1, .int x2, .int x3, .int x4] z M L K := by
  obtain ⟨d, rfl, hd⟩ := ak_deep hd
  refine fX0_are_e (cl_hasRoom hT (fun a => ⟨fun e => absurd e (by decide), fun _ => ?_⟩) (fun a => ⟨fun _ => am_gz0 (wQi_i (h0 fun q => a q.1)), fun e => absurd rfl e⟩))
  refine cl_is (by omega) hT w e1 hs1 (fun b => ⟨fun e => absurd e (by decide), fun _ => ?_⟩) (fun b => ⟨fun _ => am_gz0 (wQi_i (h0 fun q => b q.2.1)), fun e => absurd rfl e⟩)
  exact cl_is (by omega) hT w e2 hs2 (fun c => ⟨fun e => absurd e (by decide), fun _ => am_gz1 (wQi_i (h1 ⟨a, b, c⟩))⟩) (fun c => ⟨fun _ => am_gz0 (wQi_i (h0 fun q => c q.2.2)), fun e => absurd rfl e⟩)
theorem cl_isOne {x1 x2 : Int32} {s : Nat} (hd : 2 ≤ d) (hT : tx_T M T N) (w : sm_wf T tc nt N) (e1 : x2 = nI s) (hs : s ≤ 2) (h1 : ok_one T N s x1 → K 1 z M L) (h0 : ¬ ok_one T N s x1 → K 0 z M L) : wRunI (d, 0, 0) mX0_isOne [.ref 1, .int x1, .int x2] z M L K := by
  obtain ⟨d, rfl, hd⟩ := ak_deep hd
  refine fX0_isOne_e (cl_hasRoom hT (fun a => ⟨fun e => absurd e (by decide), fun _ => ?_⟩) (fun a => ⟨fun _ => am_gz0 (wQi_i (h0 fun q => a q.1)), fun e => absurd rfl e⟩))
  exact cl_is (by omega) hT w e1 hs (fun b => ⟨fun e => absurd e (by decide), fun _ => am_gz1 (wQi_i (h1 ⟨a, b⟩))⟩) (fun b => ⟨fun _ => am_gz0 (wQi_i (h0 fun q => b q.2)), fun e => absurd rfl e⟩)
theorem cl_hasColumn {x1 x2 : Int32} (hT : tx_T M T N) (w : sm_wf T tc nt N) (hx : vp_in x1 N) (h1 : vp_in x2 (sm_w (T x1.toNatClampNeg)) → K 1 z M L) (h0 : ¬ vp_in x2 (sm_w (T x1.toNatClampNeg)) → K 0 z M L) : wRunI (d, 0, 0) mX1_hasColumn [.ref 3, .int x1, .int x2] z M L K := by
  have hN := hT.2.1
  obtain ⟨j, hj, rfl⟩ := vp_in_of hx (by omega)
  rw [nI_clamp (by omega)] at h1 h0
  have w8 := (w j hj).2.1
  refine fX1_hasColumn_e ⟨fun h => am_gz0 (wQi_i (h0 fun q => q (Or.inl h))), fun h => ⟨vp_in_nI (by omega) (by omega), ?_⟩⟩
  rw [nI_clamp (by omega), (hT.2.2 j hj).2.2.2.2.2.2.1]
  refine ⟨fun h' => am_gz0 (wQi_i (h0 fun q => ?_)), fun h' => am_gz1 (wQi_i (h1 (cl_vp (by omega) h h')))⟩
  obtain ⟨c, hc, rfl⟩ := vp_in_of q (by omega)
  exact absurd h' (nI_ge hc (by omega))
theorem cl_pow : ∀ w, w ≤ 8 → (1 : Int32) <<< (nI w &&& 31) = nI (2 ^ w) := by decide
theorem cl_fits {x1 x2 : Int32} (hT : tx_T M T N) (w : sm_wf T tc nt N) (hx : vp_in x1 N) (hy : vp_in x2 N) (h1 : ap_fits T x1 x2 → K 1 z M L) (h0 : ¬ ap_fits T x1 x2 → K 0 z M L) : wRunI (d, 0, 0) mX1_fits [.ref 3, .int x1, .int x2] z M L K := by
  have hN := hT.2.1
  obtain ⟨i, hi, rfl⟩ := vp_in_of hx (by omega)
  obtain ⟨j, hj, rfl⟩ := vp_in_of hy (by omega)
  unfold ap_fits at h1 h0
  rw [nI_clamp (by omega), nI_clamp (by omega)] at h1 h0
  refine fX1_fits_e ⟨vp_in_nI (by omega) (by omega), vp_in_nI (by omega) (by omega), ?_⟩
  have w8 := (w i hi).2.1
  have l32 := (w j hj).2.2.1
  have p8 : 2 ^ sm_w (T i) ≤ 2 ^ 8 := Nat.pow_le_pow_right (by omega) w8
  have m8 : sm_l (T j) % 2 ^ 8 < 256 := Nat.mod_lt _ (by omega)
  rw [nI_clamp (by omega), nI_clamp (by omega), (hT.2.2 i hi).2.2.2.2.2.2.1, (hT.2.2 j hj).2.2.2.2.2.2.2, cl_pow _ w8, pk_andN l32 (m := 255) 8 (by decide), nI_leI (by omega) (by omega)]
  exact ⟨fun h => am_gz0 (wQi_i (h0 (by show ¬ sm_l (T j) % 2 ^ 8 < 2 ^ sm_w (T i); omega))), fun h => am_gz1 (wQi_i (h1 (by show sm_l (T j) % 2 ^ 8 < 2 ^ sm_w (T i); omega)))⟩
theorem cl_isNarrow {x1 x2 : Int32} (hT : tx_T M T N) (w : sm_wf T tc nt N) (hx : vp_in x1 N) (hy : vp_in x2 N) (h1 : ap_narrow T x1 x2 → K 1 z M L) (h0 : ¬ ap_narrow T x1 x2 → K 0 z M L) : wRunI (d, 0, 0) mX0_isNarrow [.ref 1, .int x1, .int x2] z M L K := by
  have hN := hT.2.1
  obtain ⟨i, hi, rfl⟩ := vp_in_of hx (by omega)
  obtain ⟨j, hj, rfl⟩ := vp_in_of hy (by omega)
  unfold ap_narrow at h1 h0
  rw [nI_clamp (by omega), nI_clamp (by omega)] at h1 h0
  refine fX0_isNarrow_e ⟨vp_in_nI (by omega) (by omega), vp_in_nI (by omega) (by omega), ?_⟩
  have wi := (w i hi).2.1
  have wj := (w j hj).2.1
  rw [nI_clamp (by omega), nI_clamp (by omega), (hT.2.2 i hi).2.2.2.2.2.2.1, (hT.2.2 j hj).2.2.2.2.2.2.1, nI_add, ak_n8, nI_ltI (by omega) (by omega)]
  exact ⟨fun h => am_gz0 (wQi_i (h0 (by omega))), fun h => am_gz1 (wQi_i (h1 (by omega)))⟩
/-! a new term -/
def cl_look (T : Nat → sm_T) (o : Option Nat) : Nat := match o with
  | none => 0
  | some a => sm_l (T a)
def cl_in (T : Nat → sm_T) (k : Nat) (o : Option Nat) : Nat := match o with
  | none => 0
  | some a => if sm_inside k then sm_l (T a) >>> 8 else sm_l (T a)
def cl_m (M : wd_M) (N k o : Nat) (a b : Option Nat) (w : Nat) : wd_M := am_up2 (am_up2 (am_up2 (am_up2 (am_up2 (am_up2 (am_up2 (am_up2 M 3 11 (nI (N + 1))) 4 N (nI k)) 5 N (nI o)) 6 N (ak_o a)) 7 N (ak_o b)) 8 N 0) 9 N 0) 10 N (nI w)
theorem cl_m_11 {k o w : Nat} {a b : Option Nat} : cl_m M N k o a b w 11 = M 11 := by
  unfold cl_m
  rw [ak_up_cell (by omega), ak_up_cell (by omega), ak_up_cell (by omega), ak_up_cell (by omega), ak_up_cell (by omega), ak_up_cell (by omega), ak_up_cell (by omega), ak_up_cell (by omega)]
theorem cl_m_fr {k o w : Nat} {a b : Option Nat} : ak_fr 3 11 M (cl_m M N k o a b w) := by
  unfold cl_m
  exact ak_fr_up (ak_fr_up (ak_fr_up (ak_fr_up (ak_fr_up (ak_fr_up (ak_fr_up (ak_fr_up ak_fr_refl (by omega) (by omega)) (by omega) (by omega)) (by omega) (by omega)) (by omega) (by omega)) (by omega) (by omega)) (by omega) (by omega)) (by omega) (by omega)) (by omega) (by omega)
theorem cl_m_T {k o w l : Nat} {a b : Option Nat} (hT : tx_T M T N) (hN : N < 120) : tx_T (am_up2 (cl_m M N k o a b w) 11 N (nI l)) (ap_push T N (k, o, a, b, 0, 0, w, l)) (N + 1) := by
  refine ⟨?_, by omega, fun t ht => ?_⟩
  · unfold cl_m
    rw [ak_up_cell (by omega), ak_up_cell (by omega), ak_up_cell (by omega), ak_up_cell (by omega), ak_up_cell (by omega), ak_up_cell (by omega), ak_up_cell (by omega), ak_up_cell (by omega), ak_up_same]
  · by_cases e : t = N
    · subst e
      rw [ap_new]
      unfold cl_m
      simp only [am_up2, am_upC, upd]
      simp [upd, sm_k, sm_o, sm_n, sm_c, sm_w, sm_l, ak_n0]
    · have ht : t < N := by omega
      rw [ap_old ht]
      have := hT.2.2 t ht
      unfold cl_m
      simp only [am_up2, am_upC, upd]
      simp [upd, e, this]
theorem cl_add {k o w : Nat} {a b : Option Nat} {x1 x2 x3 x4 x5 : Int32} (hd : 1 ≤ d) (hT : tx_T M T N) (w0 : sm_wf T tc nt N) (hN : N < 120) (hk : k ≤ 20) (ho : o < 128) (hw : w < 128) (ha : ∀ n, a = some n → n < N) (hb : ∀ n, b = some n → n < N) (e1 : x1 = nI k) (e2 : x2 = nI o) (e3 : x3 = ak_o a) (e4 : x4 = ak_o b) (e5 : x5 = nI w)
    (hK : ∀ M', tx_T M' (ap_push T N (k, o, a, b, 0, 0, w, cl_look T a ||| cl_in T k b)) (N + 1) → ak_fr 3 11 M M' → K (nI N) z M' L) : wRunI (d, 0, 0) mX1_add [.ref 3, .int x1, .int x2, .int x3, .int x4, .int x5] z M L K := by
  obtain ⟨d, rfl, hd⟩ := ak_deep hd
  subst e1 e2 e3 e4 e5
  have em : ∀ {P : wd_M → Prop}, P (cl_m M N k o a b w) → P (am_up2 (am_up2 (am_up2 (am_up2 (am_up2 (am_up2 (am_up2 (am_up2 M 3 11 (M 3 11 + 1)) 4 (M 3 11).toNatClampNeg (vp_nar .byte (nI k).toInt8.toInt32)) 5 (M 3 11).toNatClampNeg (vp_nar .byte (nI o).toInt8.toInt32)) 6 (M 3 11).toNatClampNeg (vp_nar .short (ak_o a).toInt16.toInt32)) 7 (M 3 11).toNatClampNeg (vp_nar .short (ak_o b).toInt16.toInt32)) 8 (M 3 11).toNatClampNeg 0) 9 (M 3 11).toNatClampNeg (vp_nar .byte 0)) 10 (M 3 11).toNatClampNeg (vp_nar .byte (nI w).toInt8.toInt32)) := fun {P} h => by
    rw [hT.1, nI_1, nI_clamp (by omega), ak_byte (by omega), ak_byte ho, ak_byte hw, cl_shortO (fun n q => by have := ha n q; omega), cl_shortO (fun n q => by have := hb n q; omega)]
    exact h
  have hin : vp_in (M 3 11) 120 := by rw [hT.1]; exact vp_in_nI (by omega) (by omega)
  have inn : vp_in (nI N) 120 := vp_in_nI (by omega) (by omega)
  have fin : ∀ s0, s0 = nI (cl_in T k b) → wRun (d + 1, 0, 0) mX1_add 112 [some (.ref 3), none, none, some (.int (ak_o a)), none, none, some (.int (M 3 11)), none] [.int s0] z (cl_m M N k o a b w) L (wQi K) := fun s0 hs => by
    rw [hT.1, hs]
    cases a with
    | none =>
      refine fX1_add_112 ⟨fun h => absurd h (by decide), fun _ => fX1_add_134 ⟨inn, wQi_i (hK _ ?_ ?_)⟩⟩
      · rw [nI_clamp (by omega), ak_n0, cl_or]
        exact cl_m_T hT hN
      · exact ak_fr_up cl_m_fr (by omega) (by omega)
    | some a =>
      have ha := ha a rfl
      refine fX1_add_112 ⟨fun h => ⟨vp_in_nI (by omega) (by omega), fX1_add_134 ⟨inn, wQi_i (hK _ ?_ ?_)⟩⟩, fun h => absurd (nI_pos' (by omega)) h⟩
      · show tx_T (am_up2 _ 11 _ (cl_m M N k o (some a) b w 11 (nI a).toNatClampNeg ||| _)) _ _
        rw [nI_clamp (by omega), nI_clamp (by omega), cl_m_11, (hT.2.2 a ha).2.2.2.2.2.2.2, cl_or]
        exact cl_m_T hT hN
      · exact ak_fr_up cl_m_fr (by omega) (by omega)
  refine fX1_add_e ⟨hin, hin, hin, hin, hin, hin, hin, ?_⟩
  cases b with
  | none =>
    refine ⟨fun h => absurd h (by decide), fun _ => ?_⟩
    exact em (P := fun M1 => wRun (d + 1, 0, 0) mX1_add 112 [some (.ref 3), none, none, some (.int (ak_o a)), none, none, some (.int (M 3 11)), none] [.int 0] z M1 L (wQi K)) (fin 0 rfl)
  | some b =>
    have hb := hb b rfl
    have l32 := (w0 b hb).2.2.1
    refine ⟨fun _ => ?_, fun h => absurd (nI_pos' (by omega)) h⟩
    refine cl_isInside hk ⟨fun e => ⟨vp_in_nI (by omega) (by omega), ?_⟩, fun e => ⟨vp_in_nI (by omega) (by omega), ?_⟩⟩
    · refine em (P := fun M1 => wRun (d + 1, 0, 0) mX1_add 112 [some (.ref 3), none, none, some (.int (ak_o a)), none, none, some (.int (M 3 11)), none] [.int (M1 11 (ak_o (some b)).toNatClampNeg)] z M1 L (wQi K)) (fin _ ?_)
      have hi : ¬ sm_inside k = true := fun q => by rw [if_pos q] at e; exact absurd e (by decide)
      show cl_m M N k o a (some b) w 11 (nI b).toNatClampNeg = _
      rw [nI_clamp (by omega), cl_m_11, (hT.2.2 b hb).2.2.2.2.2.2.2]
      unfold cl_in; dsimp only; rw [if_neg hi]
    · refine em (P := fun M1 => wRun (d + 1, 0, 0) mX1_add 112 [some (.ref 3), none, none, some (.int (ak_o a)), none, none, some (.int (M 3 11)), none] [.int (((M1 11 (ak_o (some b)).toNatClampNeg).toUInt32 >>> (Int32.toUInt32 8 &&& Int32.toUInt32 31)).toInt32)] z M1 L (wQi K)) (fin _ ?_)
      have hi : sm_inside k = true := by
        cases q : sm_inside k with
        | true => rfl
        | false => rw [q] at e; exact absurd rfl e
      show ((cl_m M N k o a (some b) w 11 (nI b).toNatClampNeg).toUInt32 >>> (Int32.toUInt32 8 &&& Int32.toUInt32 31)).toInt32 = _
      rw [nI_clamp (by omega), cl_m_11, (hT.2.2 b hb).2.2.2.2.2.2.2, pk_ushrN l32 8 8 (by decide)]
      unfold cl_in; dsimp only; rw [if_pos hi, Nat.shiftRight_eq_div_pow]
/-- a field of the new term is set -/
theorem cl_set8 {k o c w l : Nat} {a b : Option Nat} {n n' : Int32} (h : tx_T M (ap_push T N (k, o, a, b, n, c, w, l)) (N + 1)) : tx_T (am_up2 M 8 N n') (ap_push T N (k, o, a, b, n', c, w, l)) (N + 1) := by
  refine ⟨by rw [ak_up_cell (by omega)]; exact h.1, h.2.1, fun t ht => ?_⟩
  have := h.2.2 t ht
  by_cases e : t = N
  · subst e
    rw [ap_new] at this ⊢
    obtain ⟨q1, q2, q3, q4, q5, q6, q7, q8⟩ := this
    exact ⟨by rw [ak_up_cell (by omega)]; exact q1, by rw [ak_up_cell (by omega)]; exact q2, by rw [ak_up_cell (by omega)]; exact q3, by rw [ak_up_cell (by omega)]; exact q4, by rw [ak_up_same], by rw [ak_up_cell (by omega)]; exact q6, by rw [ak_up_cell (by omega)]; exact q7, by rw [ak_up_cell (by omega)]; exact q8⟩
  · rw [ap_old (by omega)] at this ⊢
    obtain ⟨q1, q2, q3, q4, q5, q6, q7, q8⟩ := this
    exact ⟨by rw [ak_up_cell (by omega)]; exact q1, by rw [ak_up_cell (by omega)]; exact q2, by rw [ak_up_cell (by omega)]; exact q3, by rw [ak_up_cell (by omega)]; exact q4, by rw [ak_up_ne e]; exact q5, by rw [ak_up_cell (by omega)]; exact q6, by rw [ak_up_cell (by omega)]; exact q7, by rw [ak_up_cell (by omega)]; exact q8⟩
theorem cl_set9 {k o c c' w l : Nat} {a b : Option Nat} {n : Int32} (h : tx_T M (ap_push T N (k, o, a, b, n, c, w, l)) (N + 1)) : tx_T (am_up2 M 9 N (nI c')) (ap_push T N (k, o, a, b, n, c', w, l)) (N + 1) := by
  refine ⟨by rw [ak_up_cell (by omega)]; exact h.1, h.2.1, fun t ht => ?_⟩
  have := h.2.2 t ht
  by_cases e : t = N
  · subst e
    rw [ap_new] at this ⊢
    obtain ⟨q1, q2, q3, q4, q5, q6, q7, q8⟩ := this
    exact ⟨by rw [ak_up_cell (by omega)]; exact q1, by rw [ak_up_cell (by omega)]; exact q2, by rw [ak_up_cell (by omega)]; exact q3, by rw [ak_up_cell (by omega)]; exact q4, by rw [ak_up_cell (by omega)]; exact q5, by rw [ak_up_same], by rw [ak_up_cell (by omega)]; exact q7, by rw [ak_up_cell (by omega)]; exact q8⟩
  · rw [ap_old (by omega)] at this ⊢
    obtain ⟨q1, q2, q3, q4, q5, q6, q7, q8⟩ := this
    exact ⟨by rw [ak_up_cell (by omega)]; exact q1, by rw [ak_up_cell (by omega)]; exact q2, by rw [ak_up_cell (by omega)]; exact q3, by rw [ak_up_cell (by omega)]; exact q4, by rw [ak_up_cell (by omega)]; exact q5, by rw [ak_up_ne e]; exact q6, by rw [ak_up_cell (by omega)]; exact q7, by rw [ak_up_cell (by omega)]; exact q8⟩
theorem cl_set11 {k o c w l l' : Nat} {a b : Option Nat} {n : Int32} (h : tx_T M (ap_push T N (k, o, a, b, n, c, w, l)) (N + 1)) : tx_T (am_up2 M 11 N (nI l')) (ap_push T N (k, o, a, b, n, c, w, l')) (N + 1) := by
  refine ⟨by rw [ak_up_cell (by omega)]; exact h.1, h.2.1, fun t ht => ?_⟩
  have := h.2.2 t ht
  by_cases e : t = N
  · subst e
    rw [ap_new] at this ⊢
    obtain ⟨q1, q2, q3, q4, q5, q6, q7, q8⟩ := this
    exact ⟨by rw [ak_up_cell (by omega)]; exact q1, by rw [ak_up_cell (by omega)]; exact q2, by rw [ak_up_cell (by omega)]; exact q3, by rw [ak_up_cell (by omega)]; exact q4, by rw [ak_up_cell (by omega)]; exact q5, by rw [ak_up_cell (by omega)]; exact q6, by rw [ak_up_cell (by omega)]; exact q7, by rw [ak_up_same]⟩
  · rw [ap_old (by omega)] at this ⊢
    obtain ⟨q1, q2, q3, q4, q5, q6, q7, q8⟩ := this
    exact ⟨by rw [ak_up_cell (by omega)]; exact q1, by rw [ak_up_cell (by omega)]; exact q2, by rw [ak_up_cell (by omega)]; exact q3, by rw [ak_up_cell (by omega)]; exact q4, by rw [ak_up_cell (by omega)]; exact q5, by rw [ak_up_cell (by omega)]; exact q6, by rw [ak_up_cell (by omega)]; exact q7, by rw [ak_up_ne e]; exact q8⟩
end TT
end CL
