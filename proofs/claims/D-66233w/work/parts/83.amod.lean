/-! CALLS of ApplyFreeModel: leaves, a new term -/
def my_tt (M : wd_M) (T : Nat → sm_T) (N : Nat) : Prop := M 650 4 = nI N ∧ N ≤ 120 ∧ ∀ t, t < N → my_tm M T t
def mm_fr (M M' : wd_M) : Prop := (∀ c, (c < 650 ∨ 661 < c ∨ (650 < c ∧ c < 654)) → M' c = M c) ∧ ∀ i, i ≠ 4 → M' 650 i = M 650 i
theorem mm_fr_trans {M M' M'' : wd_M} (h : mm_fr M M') (h' : mm_fr M' M'') : mm_fr M M'' := ⟨fun c hc => (h'.1 c hc).trans (h.1 c hc), fun i hi => (h'.2 i hi).trans (h.2 i hi)⟩
def mm_l (τ : sm_T) (l : Nat) : sm_T := (τ.1, τ.2.1, τ.2.2.1, τ.2.2.2.1, τ.2.2.2.2.1, τ.2.2.2.2.2.1, τ.2.2.2.2.2.2.1, l)
theorem mm_l_id {τ : sm_T} {l : Nat} (h : sm_l τ = l) : mm_l τ l = τ := by rw [← h]; rfl
theorem mm_byte {l l' j : Nat} : nI (l >>> (8 * j) % 256) ||| nI (l' >>> (8 * j) % 256) = nI ((l ||| l') >>> (8 * j) % 256) := by
  rw [cl_or, Nat.shiftRight_or_distrib, show (256 : Nat) = 2 ^ 8 from rfl, Nat.or_mod_two_pow]
section MM
variable {d : Nat} {z : wd_Z} {L : wd_L} {M : wd_M} {K : Int32 → wd_Z → wd_M → wd_L → Prop}
theorem mm_isIn {x b : Int32} {n : Nat} (hb : b.toInt + 1 = n) (h1 : vp_in x n → K 1 z M L) (h0 : ¬ vp_in x n → K 0 z M L) : wRunI (d, 0, 0) mX8_isIn [.int x, .int 0, .int b] z M L K := by
  have e0 : (0 : Int32).toInt = 0 := rfl
  refine fX8_isIn_e ⟨fun h => am_gz0 (wQi_i (h0 fun q => ?_)), fun h => ⟨fun h' => am_gz0 (wQi_i (h0 fun q => ?_)), fun h' => am_gz1 (wQi_i (h1 ?_))⟩⟩
  · rw [vp_in_iff] at q; rw [sm_i_lt] at h; omega
  · rw [vp_in_iff] at q; rw [sm_i_lt] at h'; omega
  · rw [vp_in_iff]; rw [sm_i_lt] at h h'; omega
theorem mm_isIn1 {x b : Int32} {n : Nat} (hb : b.toInt + 1 = n) (h1 : vp_in x n ∧ x ≠ 0 → K 1 z M L) (h0 : ¬ (vp_in x n ∧ x ≠ 0) → K 0 z M L) : wRunI (d, 0, 0) mX8_isIn [.int x, .int 1, .int b] z M L K := by
  have e0 : (0 : Int32).toInt = 0 := rfl
  have e1 : (1 : Int32).toInt = 1 := rfl
  refine fX8_isIn_e ⟨fun h => am_gz0 (wQi_i (h0 fun q => ?_)), fun h => ⟨fun h' => am_gz0 (wQi_i (h0 fun q => ?_)), fun h' => am_gz1 (wQi_i (h1 ?_))⟩⟩
  · rw [vp_in_iff, ne_eq, sm_i_eq] at q; rw [sm_i_lt] at h; omega
  · rw [vp_in_iff] at q; rw [sm_i_lt] at h'; omega
  · rw [vp_in_iff, ne_eq, sm_i_eq]; rw [sm_i_lt] at h h'; omega
/-- n - 1, with n as a count -/
theorem mm_m1 {x : Int32} {n : Nat} (h : x = nI n) (hn : n < 2 ^ 30) : (x - 1).toInt + 1 = n := by
  rw [h, ak_n1, pk_sub_toInt hn (by omega)]; omega
section TT
variable {T : Nat → sm_T} {N : Nat} {tc : Nat → Nat} {nt : Nat}
theorem mm_is {x y : Int32} {s : Nat} (hd : 1 ≤ d) (hT : my_tt M T N) (w : sm_wf T tc nt N) (hy : y = nI s) (hs : s ≤ 2) (h1 : ap_is T N x s → K 1 z M L) (h0 : ¬ ap_is T N x s → K 0 z M L) : wRunI (d, 0, 0) mX8_is [.ref 650, .int x, .int y] z M L K := by
  obtain ⟨d, rfl, hd⟩ := ak_deep hd
  have hN := hT.2.1
  refine fX8_is_e (mm_isIn (mm_m1 hT.1 (by omega)) (fun hx => ⟨fun e => absurd e (by decide), fun _ => ?_⟩) (fun hx => ⟨fun _ => am_gz0 (wQi_i (h0 fun q => hx q.1)), fun e => absurd rfl e⟩))
  obtain ⟨j, hj, rfl⟩ := vp_in_of hx (by omega)
  refine ⟨vp_in_nI (by omega) (by omega), ?_⟩
  rw [nI_clamp (by omega), (hT.2.2 j hj).2.1]
  have e : (nI (sm_sort (sm_k (T j))) = y) ↔ sm_sort (sm_k (T j)) = s := by
    rw [hy]
    refine nI_eq ?_ (by omega)
    unfold sm_sort
    split
    · omega
    · split <;> omega
  refine ⟨fun q => am_gz1 (wQi_i (h1 ⟨hx, ?_⟩)), fun q => am_gz0 (wQi_i (h0 fun p => q ?_))⟩
  · rw [nI_clamp (by omega)]; exact e.mp q
  · rw [ap_is, nI_clamp (by omega)] at p; exact e.mpr p.2
theorem mm_w (hT : my_tt M T N) {x : Int32} (hx : x.toNatClampNeg < N) : M 656 x.toNatClampNeg = nI (sm_w (T x.toNatClampNeg)) := (hT.2.2 _ hx).2.2.1
theorem mm_fits {x1 x2 : Int32} (hT : my_tt M T N) (w : sm_wf T tc nt N) (hx : vp_in x1 N) (hy : vp_in x2 N) (h1 : ap_fits T x1 x2 → K 1 z M L) (h0 : ¬ ap_fits T x1 x2 → K 0 z M L) : wRunI (d, 0, 0) mX8_fits [.ref 650, .int x1, .int x2] z M L K := by
  have hN := hT.2.1
  obtain ⟨i, hi, rfl⟩ := vp_in_of hx (by omega)
  obtain ⟨j, hj, rfl⟩ := vp_in_of hy (by omega)
  unfold ap_fits at h1 h0
  rw [nI_clamp (by omega), nI_clamp (by omega)] at h1 h0
  have w8 := (w i hi).2.1
  have b8 : sm_l (T j) % 256 < 256 := Nat.mod_lt _ (by omega)
  have l0 : M 661 (4 * j) = nI (sm_l (T j) % 256) := (hT.2.2 j hj).2.2.2.2.2.2.2 0 (by omega)
  have sh : ∀ w, w ≤ 8 → ((nI w &&& 31).toBitVec.smod 32).toNat = w := by decide
  have p0 : 0 < 2 ^ sm_w (T i) := Nat.pow_pos (by omega)
  have e4 : 4 * nI j = nI (4 * j) := by rw [ak_n4, pk_mul]
  have e : (nI (sm_l (T j) % 256) >>> (nI (sm_w (T i)) &&& 31) = 0) ↔ sm_l (T j) % 256 < 2 ^ sm_w (T i) := by
    have dl : sm_l (T j) % 256 / 2 ^ sm_w (T i) ≤ sm_l (T j) % 256 := Nat.div_le_self _ _
    rw [pk_shrN (by omega) _ _ (sh _ w8)]
    refine (nI_eq (b := 0) (by omega) (by omega)).trans ?_
    rw [Nat.div_eq_zero_iff]; omega
  refine fX8_fits_e ⟨by rw [e4]; exact vp_in_nI (by omega) (by omega), vp_in_nI (by omega) (by omega), ?_⟩
  rw [e4, nI_clamp (by omega), nI_clamp (by omega), l0, (hT.2.2 i hi).2.2.1, e]
  exact ⟨fun h => am_gz1 (wQi_i (h1 h)), fun h => am_gz0 (wQi_i (h0 h))⟩
end TT
/-! the bytes of what a term looks at -/
def mm_eq (N k : Nat) (M0 M : wd_M) : Prop := (∀ c, c ≠ 661 → M c = M0 c) ∧ ∀ i, (i < 4 * N ∨ 4 * N + k ≤ i) → M 661 i = M0 661 i
theorem mm_eq_0 {N : Nat} {M : wd_M} : mm_eq N 0 M M := ⟨fun _ _ => rfl, fun _ _ => rfl⟩
theorem mm_eq_up {N k : Nat} {M0 M : wd_M} {v : Int32} (h : mm_eq N k M0 M) : mm_eq N (k + 1) M0 (am_up2 M 661 (4 * N + k) v) :=
  ⟨fun c hc => by rw [ak_up_cell hc]; exact h.1 c hc, fun i hi => by rw [ak_up_ne (by omega)]; exact h.2 i (by omega)⟩
theorem mm_4k {N k : Nat} : 4 * nI N + nI k = nI (4 * N + k) := by rw [ak_n4, pk_mul, nI_add]
theorem mm_mk_77 {N : Nat} {M0 : wd_M} (hN : N < 120) (h4 : M0 650 4 = nI N) (hK : ∀ M', mm_eq N 4 M0 M' → (∀ j, j < 4 → M' 661 (4 * N + j) = 0) → K (nI N) z (am_up2 M' 650 4 (nI (N + 1))) L) : ∀ (m k : Nat) (M : wd_M), k + m = 4 → mm_eq N k M0 M → (∀ j, j < k → M 661 (4 * N + j) = 0) → wRun (d, 0, 0) mX8_make 77 [some (.ref 650), none, none, none, none, none, none, none, some (.int (nI k))] [] z M L (wQi K)
  | 0, k, M, hk, he, h0 => by
    have ek : k = 4 := by omega
    subst ek
    refine fX8_make_77 ⟨fun _ => wQi_i ?_, fun h => absurd (by decide) h⟩
    have h4' : M 650 4 = nI N := by rw [he.1 650 (by omega)]; exact h4
    rw [h4', nI_1, ak_up_same, nI_pred]
    exact hK M he h0
  | m + 1, k, M, hk, he, h0 => by
    have h4' : M 650 4 = nI N := by rw [he.1 650 (by omega)]; exact h4
    refine fX8_make_77 ⟨fun h => absurd h (nI_ge (a := k) (b := 4) (by omega) (by omega)), fun _ => ?_⟩
    rw [h4', mm_4k, nI_clamp (by omega), nI_1]
    refine ⟨vp_in_nI (by omega) (by omega), mm_mk_77 hN h4 hK m (k + 1) _ (by omega) (mm_eq_up he) fun j hj => ?_⟩
    by_cases e : j = k
    · rw [e, ak_up_same]
    · rw [ak_up_ne (by omega)]; exact h0 j (by omega)
section VV
variable {V : wd_Z → wd_M → wd_L → Prop}
theorem mm_as_2 {N a : Nat} {M0 : wd_M} (hN : N < 120) (ha : a < N) (hK : ∀ M', mm_eq N 4 M0 M' → (∀ j, j < 4 → M' 661 (4 * N + j) = M0 661 (4 * N + j) ||| M0 661 (4 * a + j)) → V z M' L) : ∀ (m k : Nat) (M : wd_M), k + m = 4 → mm_eq N k M0 M → (∀ j, j < k → M 661 (4 * N + j) = M0 661 (4 * N + j) ||| M0 661 (4 * a + j)) → wRun (d, 0, 0) mX8_looksAs 2 [some (.ref 650), some (.int (nI N)), some (.int (nI a)), some (.int (nI k))] [] z M L (wQv V)
  | 0, k, M, hk, he, h0 => by
    have ek : k = 4 := by omega
    subst ek
    exact fX8_looksAs_2 ⟨fun _ => wQv_i (hK M he h0), fun h => absurd (by decide) h⟩
  | m + 1, k, M, hk, he, h0 => by
    refine fX8_looksAs_2 ⟨fun h => absurd h (nI_ge (a := k) (b := 4) (by omega) (by omega)), fun _ => ?_⟩
    rw [mm_4k, mm_4k, nI_clamp (by omega), nI_clamp (by omega), nI_1]
    refine ⟨vp_in_nI (by omega) (by omega), vp_in_nI (by omega) (by omega), vp_in_nI (by omega) (by omega), mm_as_2 hN ha hK m (k + 1) _ (by omega) (mm_eq_up he) fun j hj => ?_⟩
    by_cases e : j = k
    · rw [e, ak_up_same, he.2 (4 * N + k) (by omega), he.2 (4 * a + k) (by omega)]
    · rw [ak_up_ne (by omega)]; exact h0 j (by omega)
theorem mm_in_2 {N a : Nat} {M0 : wd_M} (hN : N < 120) (ha : a < N) (hK : ∀ M', mm_eq N 3 M0 M' → (∀ j, j < 3 → M' 661 (4 * N + j) = M0 661 (4 * N + j) ||| M0 661 (4 * a + j + 1)) → V z M' L) : ∀ (m k : Nat) (M : wd_M), k + m = 3 → mm_eq N k M0 M → (∀ j, j < k → M 661 (4 * N + j) = M0 661 (4 * N + j) ||| M0 661 (4 * a + j + 1)) → wRun (d, 0, 0) mX8_looksWithin 2 [some (.ref 650), some (.int (nI N)), some (.int (nI a)), some (.int (nI k))] [] z M L (wQv V)
  | 0, k, M, hk, he, h0 => by
    have ek : k = 3 := by omega
    subst ek
    exact fX8_looksWithin_2 ⟨fun _ => wQv_i (hK M he h0), fun h => absurd (by decide) h⟩
  | m + 1, k, M, hk, he, h0 => by
    refine fX8_looksWithin_2 ⟨fun h => absurd h (nI_ge (a := k) (b := 3) (by omega) (by omega)), fun _ => ?_⟩
    rw [mm_4k, mm_4k, nI_1 (4 * a + k), nI_clamp (by omega), nI_clamp (by omega), nI_1]
    refine ⟨vp_in_nI (by omega) (by omega), vp_in_nI (by omega) (by omega), vp_in_nI (by omega) (by omega), mm_in_2 hN ha hK m (k + 1) _ (by omega) (mm_eq_up he) fun j hj => ?_⟩
    by_cases e : j = k
    · rw [e, ak_up_same, he.2 (4 * N + k) (by omega), he.2 (4 * a + k + 1) (by omega)]
    · rw [ak_up_ne (by omega)]; exact h0 j (by omega)
end VV
section TT
variable {T : Nat → sm_T} {N : Nat} {τ : sm_T} {tc : Nat → Nat} {nt : Nat}
theorem mm_tm_old {t : Nat} (ht : t < N) : my_tm M (ap_push T N τ) t ↔ my_tm M T t := by unfold my_tm; rw [ap_old ht]
theorem mm_tm_new : my_tm M (ap_push T N τ) N ↔ my_tm M (fun _ => τ) N := by unfold my_tm; rw [ap_new]
theorem mm_tt_eq {k l : Nat} {M0 : wd_M} (hT : my_tt M0 (ap_push T N τ) (N + 1)) (hk : k ≤ 4) (he : mm_eq N k M0 M) (hl : ∀ j, j < 4 → M 661 (4 * N + j) = nI (l >>> (8 * j) % 256)) : my_tt M (ap_push T N (mm_l τ l)) (N + 1) := by
  refine ⟨by rw [he.1 650 (by omega)]; exact hT.1, hT.2.1, fun t ht => ?_⟩
  have h := hT.2.2 t ht
  by_cases e : t = N
  · subst e
    rw [mm_tm_new] at h ⊢
    obtain ⟨h1, h2, h3, h4, h5, h6, h7, h8⟩ := h
    exact ⟨by rw [he.1 _ (by omega)]; exact h1, by rw [he.1 _ (by omega)]; exact h2, by rw [he.1 _ (by omega)]; exact h3, by rw [he.1 _ (by omega)]; exact h4, by rw [he.1 _ (by omega)]; exact h5, by rw [he.1 _ (by omega)]; exact h6, by rw [he.1 _ (by omega)]; exact h7, hl⟩
  · have ht : t < N := by omega
    rw [mm_tm_old ht] at h ⊢
    obtain ⟨h1, h2, h3, h4, h5, h6, h7, h8⟩ := h
    exact ⟨by rw [he.1 _ (by omega)]; exact h1, by rw [he.1 _ (by omega)]; exact h2, by rw [he.1 _ (by omega)]; exact h3, by rw [he.1 _ (by omega)]; exact h4, by rw [he.1 _ (by omega)]; exact h5, by rw [he.1 _ (by omega)]; exact h6, by rw [he.1 _ (by omega)]; exact h7, fun j hj => by rw [he.2 _ (by omega)]; exact h8 j hj⟩
theorem mm_eq_fr {k : Nat} {M0 : wd_M} (he : mm_eq N k M0 M) : mm_fr M0 M := ⟨fun c hc => he.1 c (by omega), fun i _ => by rw [he.1 650 (by omega)]⟩
theorem mm_as {V : wd_Z → wd_M → wd_L → Prop} {a l : Nat} {xt xa : Int32} (hT : my_tt M (ap_push T N (mm_l τ l)) (N + 1)) (ha : a < N) (et : xt = nI N) (ea : xa = nI a) (hK : ∀ M', my_tt M' (ap_push T N (mm_l τ (l ||| sm_l (T a)))) (N + 1) → mm_fr M M' → V z M' L) : wRunV (d, 0, 0) mX8_looksAs [.ref 650, .int xt, .int xa] z M L V := by
  subst et ea
  have hN := hT.2.1
  refine fX8_looksAs_e (mm_as_2 (M0 := M) (by omega) ha (fun M' he h4 => hK M' ?_ (mm_eq_fr he)) 4 0 M rfl mm_eq_0 (fun j hj => by omega))
  refine mm_tt_eq (τ := mm_l τ l) (l := l ||| sm_l (T a)) hT (by omega) he fun j hj => ?_
  have hn := ((mm_tm_new).mp (hT.2.2 N (by omega))).2.2.2.2.2.2.2 j hj
  have ho := ((mm_tm_old ha).mp (hT.2.2 a (by omega))).2.2.2.2.2.2.2 j hj
  rw [h4 j hj, hn, ho]
  exact mm_byte
theorem mm_within {V : wd_Z → wd_M → wd_L → Prop} {a l : Nat} {xt xa : Int32} (hT : my_tt M (ap_push T N (mm_l τ l)) (N + 1)) (ha : a < N) (h32 : sm_l (T a) < 2 ^ 32) (et : xt = nI N) (ea : xa = nI a) (hK : ∀ M', my_tt M' (ap_push T N (mm_l τ (l ||| sm_l (T a) >>> 8))) (N + 1) → mm_fr M M' → V z M' L) : wRunV (d, 0, 0) mX8_looksWithin [.ref 650, .int xt, .int xa] z M L V := by
  subst et ea
  have hN := hT.2.1
  refine fX8_looksWithin_e (mm_in_2 (M0 := M) (by omega) ha (fun M' he h4 => hK M' ?_ (mm_eq_fr he)) 3 0 M rfl mm_eq_0 (fun j hj => by omega))
  refine mm_tt_eq (τ := mm_l τ l) (l := l ||| sm_l (T a) >>> 8) hT (by omega) he fun j hj => ?_
  have hn := ((mm_tm_new).mp (hT.2.2 N (by omega))).2.2.2.2.2.2.2 j hj
  have es : sm_l (T a) >>> (8 * (j + 1)) = sm_l (T a) >>> 8 >>> (8 * j) := by rw [← Nat.shiftRight_add]; congr 1; omega
  by_cases e : j = 3
  · subst e
    rw [he.2 _ (by omega), hn]
    have z0 : sm_l (T a) >>> 8 >>> (8 * 3) = 0 := by
      rw [← es, Nat.shiftRight_eq_div_pow]
      exact Nat.div_eq_of_lt h32
    rw [Nat.shiftRight_or_distrib, z0, Nat.or_zero]; rfl
  · have ho := ((mm_tm_old ha).mp (hT.2.2 a (by omega))).2.2.2.2.2.2.2 (j + 1) (by omega)
    rw [h4 j (by omega), hn, show 4 * a + j + 1 = 4 * a + (j + 1) by omega, ho, es]
    exact mm_byte
def mm_m (M : wd_M) (N : Nat) (τ : sm_T) : wd_M := am_up2 (am_up2 (am_up2 (am_up2 (am_up2 (am_up2 (am_up2 M 654 N (nI (sm_k τ))) 655 N (nI (sm_sort (sm_k τ)))) 656 N (nI (sm_w τ))) 657 N (my_1 τ)) 658 N (my_2 τ)) 659 N (my_3 τ)) 660 N (my_4 τ)
theorem mm_m_fr : mm_fr M (mm_m M N τ) ∧ mm_m M N τ 650 = M 650 ∧ mm_m M N τ 661 = M 661 := by
  unfold mm_m
  refine ⟨⟨fun c hc => ?_, fun i hi => ?_⟩, ?_, ?_⟩
  · rw [ak_up_cell (by omega), ak_up_cell (by omega), ak_up_cell (by omega), ak_up_cell (by omega), ak_up_cell (by omega), ak_up_cell (by omega), ak_up_cell (by omega)]
  · rw [ak_up_cell (by omega), ak_up_cell (by omega), ak_up_cell (by omega), ak_up_cell (by omega), ak_up_cell (by omega), ak_up_cell (by omega), ak_up_cell (by omega)]
  · rw [ak_up_cell (by omega), ak_up_cell (by omega), ak_up_cell (by omega), ak_up_cell (by omega), ak_up_cell (by omega), ak_up_cell (by omega), ak_up_cell (by omega)]
  · rw [ak_up_cell (by omega), ak_up_cell (by omega), ak_up_cell (by omega), ak_up_cell (by omega), ak_up_cell (by omega), ak_up_cell (by omega), ak_up_cell (by omega)]
theorem mm_make {x1 x2 x3 x4 x5 x6 x7 : Int32} (hT : my_tt M T N) (hN : N < 120) (e1 : x1 = nI (sm_k τ)) (e2 : x2 = nI (sm_sort (sm_k τ))) (e3 : x3 = nI (sm_w τ)) (e4 : x4 = my_1 τ) (e5 : x5 = my_2 τ) (e6 : x6 = my_3 τ) (e7 : x7 = my_4 τ) (hK : ∀ M', my_tt M' (ap_push T N (mm_l τ 0)) (N + 1) → mm_fr M M' → K (nI N) z M' L) : wRunI (d, 0, 0) mX8_make [.ref 650, .int x1, .int x2, .int x3, .int x4, .int x5, .int x6, .int x7] z M L K := by
  have c4 : ∀ (M : wd_M) i v, am_up2 M 654 i v 650 = M 650 := fun _ _ _ => ak_up_cell (by omega)
  have c5 : ∀ (M : wd_M) i v, am_up2 M 655 i v 650 = M 650 := fun _ _ _ => ak_up_cell (by omega)
  have c6 : ∀ (M : wd_M) i v, am_up2 M 656 i v 650 = M 650 := fun _ _ _ => ak_up_cell (by omega)
  have c7 : ∀ (M : wd_M) i v, am_up2 M 657 i v 650 = M 650 := fun _ _ _ => ak_up_cell (by omega)
  have c8 : ∀ (M : wd_M) i v, am_up2 M 658 i v 650 = M 650 := fun _ _ _ => ak_up_cell (by omega)
  have c9 : ∀ (M : wd_M) i v, am_up2 M 659 i v 650 = M 650 := fun _ _ _ => ak_up_cell (by omega)
  have cl : (nI N).toNatClampNeg = N := nI_clamp (by omega)
  have hin : vp_in (nI N) 120 := vp_in_nI (by omega) (by omega)
  refine fX8_make_e ?_
  simp only [c4, c5, c6, c7, c8, c9, hT.1, cl, e1, e2, e3, e4, e5, e6, e7]
  refine ⟨hin, hin, hin, hin, hin, hin, hin, ?_⟩
  obtain ⟨f1, f2, f3⟩ := mm_m_fr (M := M) (N := N) (τ := τ)
  refine mm_mk_77 (M0 := mm_m M N τ) hN (by rw [f2]; exact hT.1) (fun M' he h0 => hK _ ?_ ?_) 4 0 _ rfl mm_eq_0 (fun j hj => by omega)
  · refine ⟨ak_up_same, by omega, fun t ht => ?_⟩
    by_cases e : t = N
    · subst e
      rw [mm_tm_new]
      refine ⟨?_, ?_, ?_, ?_, ?_, ?_, ?_, fun j hj => ?_⟩
      iterate 7
        rw [ak_up_cell (by omega), he.1 _ (by omega)]
        unfold mm_m
        simp [am_up2, am_upC, upd, mm_l]
        try rfl
      rw [ak_up_cell (by omega), h0 j hj]
      show (0 : Int32) = nI (0 >>> (8 * j) % 256)
      rw [Nat.zero_shiftRight]; rfl
    · have ht : t < N := by omega
      rw [mm_tm_old ht]
      obtain ⟨h1, h2, h3, h4, h5, h6, h7, h8⟩ := hT.2.2 t ht
      refine ⟨?_, ?_, ?_, ?_, ?_, ?_, ?_, fun j hj => ?_⟩
      iterate 7
        rw [ak_up_cell (by omega), he.1 _ (by omega)]
        unfold mm_m
        simp [am_up2, am_upC, upd, e, h1, h2, h3, h4, h5, h6, h7]
      rw [ak_up_cell (by omega), he.2 _ (by omega), f3]
      exact h8 j hj
  · refine ⟨fun c hc => ?_, fun i hi => ?_⟩
    · rw [ak_up_cell (by omega), he.1 c (by omega)]; exact f1.1 c hc
    · rw [ak_up_ne hi, he.1 650 (by omega), f2]
def mm_N (K : Int32 → wd_Z → wd_M → wd_L → Prop) (z : wd_Z) (M : wd_M) (L : wd_L) (T : Nat → sm_T) (N : Nat) (τ : sm_T) : Prop := ∀ M', my_tt M' (ap_push T N τ) (N + 1) → mm_fr M M' → K (nI N) z M' L
section MK
variable {x1 x2 x3 x4 x5 x6 x7 xa xb : Int32} {a b : Nat}
theorem mm_mk1 (hT : my_tt M T N) (hN : N < 120) (ha : a < N) (hl : sm_l τ = sm_l (T a)) (ea : xa = nI a) (hK : mm_N K z M L T N τ) (e1 : x1 = nI (sm_k τ)) (e2 : x2 = nI (sm_sort (sm_k τ))) (e3 : x3 = nI (sm_w τ)) (e4 : x4 = my_1 τ) (e5 : x5 = my_2 τ) (e6 : x6 = my_3 τ) (e7 : x7 = my_4 τ) :
    wRunI (d, 0, 0) mX8_make [.ref 650, .int x1, .int x2, .int x3, .int x4, .int x5, .int x6, .int x7] z M L (fun v4 z1 M2 L3 => wRunV (d, 0, 0) mX8_looksAs [.ref 650, .int v4, .int xa] z1 M2 L3 (fun z5 M6 L7 => wQi K (some (.int v4)) (wd z5 M6 L7))) := by
  refine mm_make hT hN e1 e2 e3 e4 e5 e6 e7 fun M1 t1 f1 => ?_
  refine mm_as t1 ha rfl ea fun M2 t2 f2 => wQi_i (hK M2 ?_ (mm_fr_trans f1 f2))
  rw [Nat.zero_or, mm_l_id hl] at t2; exact t2
theorem mm_mk2 (hT : my_tt M T N) (hN : N < 120) (ha : a < N) (hb : b < N) (hl : sm_l τ = sm_l (T a) ||| sm_l (T b)) (ea : xa = nI a) (eb : xb = nI b) (hK : mm_N K z M L T N τ) (e1 : x1 = nI (sm_k τ)) (e2 : x2 = nI (sm_sort (sm_k τ))) (e3 : x3 = nI (sm_w τ)) (e4 : x4 = my_1 τ) (e5 : x5 = my_2 τ) (e6 : x6 = my_3 τ) (e7 : x7 = my_4 τ) :
    wRunI (d, 0, 0) mX8_make [.ref 650, .int x1, .int x2, .int x3, .int x4, .int x5, .int x6, .int x7] z M L (fun v4 z1 M2 L3 => wRunV (d, 0, 0) mX8_looksAs [.ref 650, .int v4, .int xa] z1 M2 L3 (fun z5 M6 L7 => wRunV (d, 0, 0) mX8_looksAs [.ref 650, .int v4, .int xb] z5 M6 L7 (fun z8 M9 L10 => wQi K (some (.int v4)) (wd z8 M9 L10)))) := by
  refine mm_make hT hN e1 e2 e3 e4 e5 e6 e7 fun M1 t1 f1 => ?_
  refine mm_as t1 ha rfl ea fun M2 t2 f2 => ?_
  refine mm_as t2 hb rfl eb fun M3 t3 f3 => wQi_i (hK M3 ?_ (mm_fr_trans (mm_fr_trans f1 f2) f3))
  rw [Nat.zero_or, mm_l_id hl] at t3; exact t3
theorem mm_mki (hT : my_tt M T N) (hN : N < 120) (ha : a < N) (hb : b < N) (h32 : sm_l (T b) < 2 ^ 32) (hl : sm_l τ = sm_l (T a) ||| sm_l (T b) >>> 8) (ea : xa = nI a) (eb : xb = nI b) (hK : mm_N K z M L T N τ) (e1 : x1 = nI (sm_k τ)) (e2 : x2 = nI (sm_sort (sm_k τ))) (e3 : x3 = nI (sm_w τ)) (e4 : x4 = my_1 τ) (e5 : x5 = my_2 τ) (e6 : x6 = my_3 τ) (e7 : x7 = my_4 τ) :
    wRunI (d, 0, 0) mX8_make [.ref 650, .int x1, .int x2, .int x3, .int x4, .int x5, .int x6, .int x7] z M L (fun v4 z1 M2 L3 => wRunV (d, 0, 0) mX8_looksAs [.ref 650, .int v4, .int xa] z1 M2 L3 (fun z5 M6 L7 => wRunV (d, 0, 0) mX8_looksWithin [.ref 650, .int v4, .int xb] z5 M6 L7 (fun z8 M9 L10 => wQi K (some (.int v4)) (wd z8 M9 L10)))) := by
  refine mm_make hT hN e1 e2 e3 e4 e5 e6 e7 fun M1 t1 f1 => ?_
  refine mm_as t1 ha rfl ea fun M2 t2 f2 => ?_
  refine mm_within t2 hb h32 rfl eb fun M3 t3 f3 => wQi_i (hK M3 ?_ (mm_fr_trans (mm_fr_trans f1 f2) f3))
  rw [Nat.zero_or, mm_l_id hl] at t3; exact t3
end MK
end TT
end MM
