/-! CONTRACTS of ApplyFree$Rewriter: choices, only's and groups' lists, programs -/
theorem ak_sh32 : ∀ k, k < 32 → (((nI k).toUInt32 &&& Int32.toUInt32 31).toBitVec % 32).toNat = k := by decide
theorem ak_bit {l k : Nat} (hl : l < 2 ^ 32) (hk : k < 32) : ((((nI l).toUInt32 >>> ((nI k).toUInt32 &&& Int32.toUInt32 31)).toInt32) &&& 1 = 1) ↔ l.testBit k = true := by
  rw [pk_ushrN hl (nI k) k (ak_sh32 k hk), pk_andN (by have := Nat.div_le_self l (2 ^ k); omega) 1 (by decide), ak_n1, nI_eq (by omega) (by omega), Nat.testBit_eq_decide_div_mod_eq, decide_eq_true_eq]
theorem cp_rank_s {l k : Nat} : cp_rank l (k + 1) = cp_rank l k + if l.testBit k then 1 else 0 := by
  unfold cp_rank
  rw [List.range_succ, List.filter_append, List.length_append]
  cases h : l.testBit k <;> simp [h]
theorem cp_rank_le {l k : Nat} : cp_rank l k ≤ k := by
  unfold cp_rank
  exact Nat.le_trans (List.length_filter_le _ _) (by simp)
theorem cp_rank_mono {l i : Nat} : ∀ {j : Nat}, i ≤ j → cp_rank l i ≤ cp_rank l j
  | 0, h => by rw [Nat.le_zero.mp h]; exact Nat.le_refl _
  | j + 1, h => by
    rcases Nat.lt_or_eq_of_le h with q | q
    · exact Nat.le_trans (cp_rank_mono (Nat.le_of_lt_succ q)) (by rw [cp_rank_s]; exact Nat.le_add_right _ _)
    · rw [q]; exact Nat.le_refl _
theorem cp_bits_len {l : Nat} : (cp_bits l).length ≤ 32 := cp_rank_le (l := l) (k := 32)
theorem cp_cl_len {l : Nat} {pl : Nat → Nat} : (cp_cl l pl).length = (cp_bits l).length := by unfold cp_cl; rw [List.length_map]
section RZ
variable {d : Nat} {z : wd_Z} {L : wd_L}
theorem rx_choices_36 {a b t l e u0 o : Nat} {pl : Nat → Nat} {fs : List Nat} {S0 : List cp_St} {Q : am_Q} (ha : rx_sc a) (hb : rx_sc b) (hab : a ≠ b) (hl : l < 2 ^ 32) (ht : t < 120) (hd : 1 ≤ d) (hc : S0.length + 2 ≤ 32768) :
    ∀ (n i : Nat) (M : wd_M), i + n = 32 → rx_R M (S0, u0 + cp_rank l i) o fs → M 11 t = nI l → M a 0 = nI e → (∀ k, k < 32 → l.testBit k = true → M (a + 1) k = nI (pl k)) → M b 1 = nI (cp_rank l i) → M b 3 = nI u0 →
      sl_at (M 22) u0 (((List.range i).filter (fun k => l.testBit k)).map (fun k => nI (pl k))) → (∀ k, k < i → l.testBit k = true → M (b + 1) k = nI (cp_rank l k)) → u0 + (cp_bits l).length ≤ 524288 →
      (∀ M', rx_R M' (S0 ++ [cp_pick e (cp_cl l pl), cp_uniq S0.length], u0 + (cp_bits l).length) o fs → M' b 0 = nI (S0.length + 1) → M' b 1 = nI (cp_bits l).length → M' b 3 = nI u0 → sl_at (M' 22) u0 (cp_cl l pl) → (∀ k, k < 32 → l.testBit k = true → M' (b + 1) k = nI (cp_rank l k)) → rx_pl u0 M M' →
        (∀ c, (c < 14 ∨ 22 < c) → c ≠ b → c ≠ b + 1 → M' c = M c) → Q (some (.ref b)) (wd z M' L)) →
      wRun (d + 1, 0, 0) mX3_choices 36 [some (.ref 23), some (.int (nI t)), some (.ref a), some (.ref b), some (.int (nI i))] [] z M L Q
  | 0, i, M, hi, hR, h11, he, hp, hw, h3, hs, hq, hu, hQ => by
    have ei : i = 32 := by omega
    subst ei
    have hs : sl_at (M 22) u0 (cp_cl l pl) := hs
    have hlen : cp_rank l 32 = (cp_cl l pl).length := cp_cl_len.symm
    have hb14 : b = 24 ∨ 28 ≤ b := by rcases hb with h | ⟨j, h1, h2⟩ <;> omega
    refine fX3_choices_36 ⟨fun _ => rx_gO ha (rx_gO hb (rx_gO hb ?_)), fun q => absurd (nI_le (a := 32) (b := 32) (by omega) (by omega)) q⟩
    rw [he, h3, hw]
    refine rx_pick (p := u0) (ls := cp_cl l pl) (by omega) hR.1 (by show S0.length < _; omega) (by rw [hlen]) (by show u0 + _ ≤ u0 + cp_rank l 32; omega) hs fun M1 a1 a2 a3 => ?_
    refine rx_uniq (by omega) a1 (by rw [List.length_append]; show S0.length + 1 < _; omega) fun M2 b1 b2 b3 => ?_
    have e1 : (S0 ++ [cp_pick e (cp_cl l pl)]).length = S0.length + 1 := by simp
    have b1 : rx_S M2 (S0 ++ [cp_pick e (cp_cl l pl)] ++ [cp_uniq S0.length], u0 + cp_rank l 32) := b1
    have f2 := ak_fr_trans a3 b3
    refine rx_gP0 hb ?_
    show Q _ (wd z (am_up2 M2 b 0 (nI (S0 ++ [cp_pick e (cp_cl l pl)]).length)) L)
    rw [e1]
    have hR2 := rx_R_st hR b1 f2
    refine hQ _ ⟨?_, ?_, ?_⟩ ak_up_same ?_ ?_ ?_ ?_ ?_ ?_
    · refine rx_S_fr (M := M2) ?_ fun c g1 g2 => ak_up_cell (by omega)
      rw [show [cp_pick e (cp_cl l pl), cp_uniq S0.length] = [cp_pick e (cp_cl l pl)] ++ [cp_uniq S0.length] from rfl, ← List.append_assoc]
      exact b1
    · rw [ak_up_cell (by omega)]; exact hR2.2.1
    · exact rx_fd_fr hR2.2.2 (by rw [ak_up_cell (by omega)]) (ak_up_cell (by omega))
    · rw [ak_up_ne (by omega), f2 b (by omega)]; exact hw
    · rw [ak_up_ne (by omega), f2 b (by omega)]; exact h3
    · rw [ak_up_cell (by omega)]
      exact rx_pl_sl (u := u0 + cp_rank l 32) (fun q hq => (b2 q hq).trans (a2 q hq)) hs (by omega)
    · intro k k1 k2
      rw [ak_up_cell (by omega), f2 (b + 1) (by omega)]
      exact hq k k1 k2
    · intro q hq
      rw [ak_up_cell (by omega)]
      exact (b2 q (by show q < u0 + cp_rank l 32; omega)).trans (a2 q (by show q < u0 + cp_rank l 32; omega))
    · intro c g1 g2 g3
      rw [ak_up_cell g2]; exact f2 c g1
  | n + 1, i, M, hi, hR, h11, he, hp, hw, h3, hs, hq, hu, hQ => by
    have hb14 : b = 24 ∨ 28 ≤ b := by rcases hb with h | ⟨j, h1, h2⟩ <;> omega
    have ha14 : a = 24 ∨ 28 ≤ a := by rcases ha with h | ⟨j, h1, h2⟩ <;> omega
    have hne : a ≠ b + 1 ∧ a + 1 ≠ b ∧ a + 1 ≠ b + 1 := by
      rcases ha with h | ⟨j, g, h'⟩ <;> rcases hb with g | ⟨j2, g, g'⟩ <;> omega
    refine fX3_choices_36 ⟨fun q => absurd q (by rw [ak_n32]; exact nI_ge (by omega) (by omega)), fun _ => ?_⟩
    rw [nI_clamp (by omega), nI_clamp (by omega), h11, nI_1]
    refine ⟨vp_in_nI ht (by omega), fun q => ?_, fun q => ?_⟩
    · rw [ak_bit hl (by omega)] at q
      have hr : cp_rank l (i + 1) = cp_rank l i + 1 := by rw [cp_rank_s, if_pos q]
      have hri : cp_rank l (i + 1) ≤ (cp_bits l).length := cp_rank_mono (l := l) (show i + 1 ≤ 32 by omega)
      refine rx_gO ha (rx_gR ha (rx_gI ha ⟨rx_gL ha (by omega), ?_⟩))
      rw [hp i (by omega) q]
      refine rx_put hR.1 (by show u0 + cp_rank l i < _; omega) fun M1 a1 a2 a3 a4 => rx_gO hb (rx_gR hb (rx_gO hb (rx_gP1 hb (rx_gA hb ⟨rx_gL hb (by omega), ?_⟩))))
      have e1 : M1 b = M b := a4 b (by omega)
      rw [e1, hw, nI_1]
      have g1 := rx_R_st hR a1 a4
      refine rx_choices_36 (e := e) (o := o) (pl := pl) (fs := fs) ha hb hab hl ht hd hc n (i + 1) _ (by omega) ⟨?_, ?_, ?_⟩ ?_ ?_ ?_ ?_ ?_ ?_ ?_ hu ?_
      · refine rx_S_fr (M := M1) ?_ fun c k1 k2 => by rw [ak_up_cell (by omega), ak_up_cell (by omega)]
        rw [hr]; exact a1
      · rw [ak_up_cell (by omega), ak_up_cell (by omega)]; exact g1.2.1
      · exact rx_fd_fr g1.2.2 (by rw [ak_up_cell (by omega), ak_up_cell (by omega)]) (by rw [ak_up_cell (by omega), ak_up_cell (by omega)])
      · rw [ak_up_cell (by omega), ak_up_cell (by omega), a4 11 (by omega)]; exact h11
      · rw [ak_up_cell (by omega), ak_up_cell hab, a4 a (by omega)]; exact he
      · intro k k1 k2
        rw [ak_up_cell (by omega), ak_up_cell (by omega), a4 (a + 1) (by omega)]; exact hp k k1 k2
      · rw [ak_up_cell (by omega), ak_up_same, hr]
      · rw [ak_up_cell (by omega), ak_up_ne (by omega), e1]; exact h3
      · rw [ak_up_cell (by omega), ak_up_cell (by omega), List.range_succ, List.filter_append, List.map_append, sl_app]
        refine ⟨rx_pl_sl a3 hs (by rw [List.length_map]; exact Nat.le_refl _), ?_⟩
        rw [List.length_map]
        have : (List.filter (fun k => l.testBit k) [i]).map (fun k => nI (pl k)) = [nI (pl i)] := by simp [q]
        rw [this, sl_one]
        exact a2
      · intro k k1 k2
        by_cases e : k = i
        · subst e; rw [ak_up_same]
        · rw [ak_up_ne e, ak_up_cell (by omega), a4 (b + 1) (by omega)]; exact hq k (by omega) k2
      · intro M' c1 c2 c3 c4 c5 c6 c7 c8
        refine hQ M' c1 c2 c3 c4 c5 c6 (fun x hx => ?_) fun c k1 k2 k3 => ?_
        · rw [c7 x hx, ak_up_cell (by omega), ak_up_cell (by omega)]; exact a3 x (by show x < u0 + cp_rank l i; omega)
        · rw [c8 c k1 k2 k3, ak_up_cell k3, ak_up_cell k2]; exact a4 c k1
    · rw [ak_bit hl (by omega)] at q
      have hr : cp_rank l (i + 1) = cp_rank l i := by rw [cp_rank_s, if_neg q]; rfl
      refine rx_choices_36 (e := e) (o := o) (pl := pl) (fs := fs) ha hb hab hl ht hd hc n (i + 1) M (by omega) (by rw [hr]; exact hR) h11 he hp (by rw [hr]; exact hw) h3 ?_ (fun k k1 k2 => ?_) hu hQ
      · rw [List.range_succ, List.filter_append]
        have : List.filter (fun k => l.testBit k) [i] = [] := by simp [q]
        rw [this, List.append_nil]; exact hs
      · by_cases e : k = i
        · subst e; exact absurd k2 q
        · exact hq k (by omega) k2
theorem rx_choices {M : wd_M} {T : Nat → sm_T} {N a t e o : Nat} {pl : Nat → Nat} {σ : cp_S} {fs : List Nat} {K : Nat → wd_Z → wd_M → wd_L → Prop} (hd : 2 ≤ d) (hT : tx_T M T N) (ht : t < N) (hl : sm_l (T t) < 2 ^ 32) (ha : rx_op o a) (ho : o < 300) (hR : rx_R M σ o fs) (he : M a 0 = nI e)
    (hp : ∀ k, k < 32 → (sm_l (T t)).testBit k = true → M (a + 1) k = nI (pl k)) (hc : (cp_ch (sm_l (T t)) e pl σ).1.length ≤ 32768) (hu : (cp_ch (sm_l (T t)) e pl σ).2 ≤ 524288) 
    (hK : ∀ M', rx_R M' (cp_ch (sm_l (T t)) e pl σ) (o + 1) fs → M' (28 + 2 * o) 0 = nI (σ.1.length + 1) → M' (28 + 2 * o) 1 = nI (cp_bits (sm_l (T t))).length → M' (28 + 2 * o) 3 = nI σ.2 → sl_at (M' 22) σ.2 (cp_cl (sm_l (T t)) pl) → (∀ k, k < 32 → (sm_l (T t)).testBit k = true → M' (28 + 2 * o + 1) k = nI (cp_rank (sm_l (T t)) k)) → rx_pl σ.2 M M' → rx_F o 23 M M' → K (28 + 2 * o) z M' L) :
    wRunR (d, 0, 0) mX3_choices [.ref 23, .int (nI t), .ref a] z M L K := by
  have hT120 := hT.2.1
  have h11 : M 11 t = nI (sm_l (T t)) := (hT.2.2 t ht).2.2.2.2.2.2.2
  obtain ⟨h1, h2, h3⟩ := hR
  have hsc := rx_op_sc ha (by omega)
  have hb : rx_sc (28 + 2 * o) := Or.inr ⟨o, ho, rfl⟩
  have hab : a ≠ 28 + 2 * o ∧ a + 1 ≠ 28 + 2 * o ∧ a ≠ 23 ∧ a + 1 ≠ 23 := by rcases ha with h | ⟨j, g1, g2⟩ <;> omega
  obtain ⟨d, rfl, hd'⟩ := ak_deep hd
  refine fX3_choices_e ?_
  rw [h2, nI_clamp (by omega), nI_1]
  refine ⟨vp_in_nI ho (by omega), am_bR_i (rx_sc_get ho) (rx_gP1 hb (rx_gP3 hb ?_))⟩
  have ew : am_up2 (am_up2 M 23 4 (nI (o + 1))) (28 + 2 * o) 1 0 14 9 = nI σ.2 := by rw [ak_up_cell (by omega), ak_up_cell (by omega)]; exact h1.2.1
  rw [ew, ak_n0]
  have hc : σ.1.length + 2 ≤ 32768 := by
    unfold cp_ch at hc
    rw [List.length_append] at hc
    exact hc
  refine rx_choices_36 (d := d) (l := sm_l (T t)) (e := e) (u0 := σ.2) (o := o + 1) (pl := pl) (fs := fs) (S0 := σ.1) hsc hb hab.1 hl (by omega) (by omega) hc 32 0 _ rfl ⟨?_, ?_, ?_⟩ ?_ ?_ ?_ ?_ ak_up_same (by simpa using sl_nil) (fun k g => by omega) hu ?_
  · exact rx_S_fr (M := M) (by simpa [cp_rank] using h1) fun c k1 k2 => by rw [ak_up_cell (by omega), ak_up_cell (by omega), ak_up_cell (by omega)]
  · rw [ak_up_cell (by omega), ak_up_cell (by omega), ak_up_same]
  · exact rx_fd_fr h3 (by rw [ak_up_cell (by omega), ak_up_cell (by omega), ak_up_ne (by omega)]) (by rw [ak_up_cell (by omega), ak_up_cell (by omega), ak_up_cell (by omega)])
  · rw [ak_up_cell (by omega), ak_up_cell (by omega), ak_up_cell (by omega)]; exact h11
  · rw [ak_up_cell hab.1, ak_up_cell hab.1, ak_up_cell hab.2.2.1]; exact he
  · intro k k1 k2
    rw [ak_up_cell hab.2.1, ak_up_cell hab.2.1, ak_up_cell hab.2.2.2]; exact hp k k1 k2
  · rw [ak_up_ne (by omega), ak_up_same]; rfl
  · intro M' c1 c2 c3 c4 c5 c6 c7 c8
    refine wQr_i (hK M' c1 c2 c3 c4 c5 c6 (fun x hx => ?_) fun c k1 k2 => ?_)
    · rw [c7 x hx, ak_up_cell (by omega), ak_up_cell (by omega), ak_up_cell (by omega)]
    · rw [c8 c (by omega) (by omega) (by omega), ak_up_cell (by omega), ak_up_cell (by omega), ak_up_cell (by omega)]
end RZ
