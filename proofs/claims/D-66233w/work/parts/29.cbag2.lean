/-! CONTRACTS of ApplyFree$Rewriter: only, groups, pairs, apply, marked, folded, has -/
theorem sm_col_eq (num : Int32) (k : Nat) : (num >>> (nI (4 * k) &&& 31)) &&& 15 = nI (sm_col num k) := by
  unfold sm_col
  obtain ⟨j, h1, h2⟩ := pk_andE (num >>> (nI (4 * k) &&& 31)) (m := 15) 4 (by decide)
  rw [h2, nI_clamp (by omega)]
theorem sm_col_lt (num : Int32) (k : Nat) : sm_col num k < 16 := by
  unfold sm_col
  obtain ⟨j, h1, h2⟩ := pk_andE (num >>> (nI (4 * k) &&& 31)) (m := 15) 4 (by decide)
  rw [h2, nI_clamp (by omega)]; exact h1
theorem sm_bit_iff (num : Int32) (c : Nat) : ((num >>> (nI c &&& 31)) &&& 1 = 1) ↔ sm_bit num c = true := by
  unfold sm_bit; rw [beq_iff_eq]
theorem cp_sp_len (n : Nat) : (cp_sp n).length = n := by simp [cp_sp]
section RZ
variable {d : Nat} {z : wd_Z} {L : wd_L} {T : Nat → sm_T} {N : Nat} {tr : Nat → Nat}
/-- only: the columns behind those of the scope -/
theorem rx_only_17 {t s a w cn u0 o : Nat} {fs : List Nat} {S0 : List cp_St} {K : Int32 → wd_Z → wd_M → wd_L → Prop} (ht : t < N) (ha : rx_sc a) (hcn : sm_c (T t) = cn) (hcl : cn ≤ 100) (hc : S0.length < 32768) (hu : u0 + w + cn ≤ 524288) (hd : 1 ≤ d) :
    ∀ (n i : Nat) (M : wd_M), i + n = cn → tx_T M T N → rx_R M (S0, u0 + w + i) o fs → M a 1 = nI w → sl_at (M 22) u0 (cp_sp w ++ (List.range i).map (fun k => nI (w + sm_col (sm_n (T t)) k))) →
      (∀ M', rx_R M' (S0 ++ [cp_pick s (cp_sp w ++ (List.range cn).map (fun k => nI (w + sm_col (sm_n (T t)) k)))], u0 + w + cn) o fs → rx_pl u0 M M' → ak_fr 14 22 M M' → K (nI S0.length) z M' L) →
      wRun (d + 1, 0, 0) mX3_only 17 [some (.ref 23), some (.int (nI t)), some (.int (nI s)), some (.ref a), some (.int (nI u0)), some (.int (nI i))] [] z M L (wQi K)
  | 0, i, M, hi, hT, hR, hw, hs, hK => by
    have hN := hT.2.1
    have m9 : M 9 t = nI cn := by rw [← hcn]; exact (hT.2.2 t ht).2.2.2.2.2.1
    have ei : i = cn := by omega
    subst ei
    refine fX3_only_17 ?_
    rw [nI_clamp (by omega), m9, hw, nI_add]
    refine ⟨vp_in_nI (by omega) (by omega), fun _ => rx_gO ha ⟨vp_in_nI (by omega) (by omega), ?_⟩, fun q => absurd (nI_le (Nat.le_refl _) (by omega)) q⟩
    have hlen : (cp_sp w ++ (List.range i).map (fun k => nI (w + sm_col (sm_n (T t)) k))).length = w + i := by simp [cp_sp]
    exact rx_pick (by omega) hR.1 hc (by rw [hlen]) (by rw [hlen]; show u0 + (w + i) ≤ u0 + w + i; omega) hs fun M1 a1 a2 a3 => wQi_i (hK M1 (rx_R_st hR a1 a3) (fun q hq => a2 q (by show q < u0 + w + i; omega)) a3)
  | n + 1, i, M, hi, hT, hR, hw, hs, hK => by
    have hN := hT.2.1
    have m9 : M 9 t = nI cn := by rw [← hcn]; exact (hT.2.2 t ht).2.2.2.2.2.1
    have m8 : M 8 t = sm_n (T t) := (hT.2.2 t ht).2.2.2.2.1
    refine fX3_only_17 ?_
    rw [nI_clamp (by omega), m9, hw, m8, ak_n4, pk_mul, sm_col_eq, nI_add, nI_1]
    refine ⟨vp_in_nI (by omega) (by omega), fun q => absurd q (nI_ge (by omega) (by omega)), fun _ => rx_gO ha ⟨vp_in_nI (by omega) (by omega), ?_⟩⟩
    refine rx_put hR.1 (by show u0 + w + i < _; omega) fun M1 a1 a2 a3 a4 => ?_
    have ha23 : 22 < a := by rcases ha with h | ⟨j, h1, h2⟩ <;> omega
    refine rx_only_17 ht ha hcn hcl hc hu hd n (i + 1) M1 (by omega) (tx_T_fr hT fun c _ h => a4 c (by omega)) (rx_R_st hR (by rw [show u0 + w + (i + 1) = u0 + w + i + 1 by omega]; exact a1) a4) (by rw [a4 a (by omega)]; exact hw) ?_ fun M2 b1 b2 b3 => hK M2 b1 (rx_pl_trans (u' := u0) (fun q hq => a3 q (by show q < u0 + w + i; omega)) b2 (Nat.le_refl _)) (ak_fr_trans a4 b3)
    rw [List.range_succ, List.map_append, ← List.append_assoc, sl_app]
    have hlen : (cp_sp w ++ (List.range i).map (fun k => nI (w + sm_col (sm_n (T t)) k))).length = w + i := by simp [cp_sp]
    refine ⟨rx_pl_sl a3 hs (by rw [hlen]; show u0 + (w + i) ≤ u0 + w + i; omega), ?_⟩
    rw [hlen]
    exact sl_one.mpr (by rw [show u0 + (w + i) = u0 + w + i by omega]; exact a2.trans (nI_add _ _))
theorem rx_only {M : wd_M} {t s a : Nat} {x : cp_X} {σ : cp_S} {o : Nat} {fs : List Nat} {l : Nat} {K : Int32 → wd_Z → wd_M → wd_L → Prop} (hd : 2 ≤ d) (ht : t < N) (hP : rx_Pre T N M σ o fs) (hX : rx_XA M a l x o) (ho : o ≤ 300) (hcl : sm_c (T t) ≤ 100) (hc : σ.1.length < 32768) (hu : σ.2 + x.2.2.1 + sm_c (T t) ≤ 524288)
    (hK : ∀ M', rx_Po M σ o fs (σ.1 ++ [cp_pick s (cp_sp x.2.2.1 ++ (List.range (sm_c (T t))).map (fun k => nI (x.2.2.1 + sm_col (sm_n (T t)) k)))], σ.2 + x.2.2.1 + sm_c (T t)) M' → K (nI σ.1.length) z M' L) :
    wRunI (d, 0, 0) mX3_only [.ref 23, .int (nI t), .int (nI s), .ref a] z M L K := by
  obtain ⟨d, rfl, hd'⟩ := ak_deep hd
  have ha := rx_op_sc hX.1 ho
  have ha23 : 22 < a := by rcases ha with h | ⟨j, h1, h2⟩ <;> omega
  refine fX3_only_e (rx_gO ha ?_)
  rw [hX.2.2.2.1]
  refine rx_span (n := x.2.2.1) hd' hP.2.1.1 (by omega) rfl fun M1 a1 a2 a3 a4 => ?_
  rw [ak_n0]
  refine rx_only_17 (d := d) (cn := sm_c (T t)) (w := x.2.2.1) (u0 := σ.2) (o := o) (fs := fs) (S0 := σ.1) ht ha rfl hcl hc hu (by omega) (sm_c (T t)) 0 M1 (by omega) (tx_T_fr hP.1 fun c _ h => a4 c (by omega)) (rx_R_st hP.2.1 a1 a4) (by rw [a4 a (by omega)]; exact hX.2.2.2.1) (by simpa using a3) fun M2 b1 b2 b3 => hK M2 ⟨b1, rx_pl_trans a2 b2 (Nat.le_refl _), rx_F_of (ak_fr_trans a4 b3)⟩
/-- groups: the columns by which -/
theorem rx_groups_23 {t s a l u0 o cn : Nat} {x : cp_X} {fs : List Nat} {S0 : List cp_St} {K : Int32 → wd_Z → wd_M → wd_L → Prop} (ht : t < N) (ho : o ≤ 300) (hop : sm_o (T t) ≤ 5) (hcn : sm_c (T t) = cn) (hcl : cn ≤ 100) (hd : 3 ≤ d)
    (hc : (cp_fold s (cp_sp x.2.2.1 ++ (sm_ks (sm_n (T t))).map (fun c => nI (x.2.2.1 + c))) (sm_o (T t)) (x.2.2.1 + cn) (S0, u0 + x.2.2.1 + (sm_ks (sm_n (T t))).length)).2.1.length + (if sm_ks (sm_n (T t)) = [] then 1 else 0) ≤ 32768) 
    (hu : (cp_fold s (cp_sp x.2.2.1 ++ (sm_ks (sm_n (T t))).map (fun c => nI (x.2.2.1 + c))) (sm_o (T t)) (x.2.2.1 + cn) (S0, u0 + x.2.2.1 + (sm_ks (sm_n (T t))).length)).2.2 + (if sm_ks (sm_n (T t)) = [] then x.2.2.1 else 0) ≤ 524288) :
    ∀ (n i : Nat) (M : wd_M), i + n = 8 → rx_Pre T N M (S0, u0 + x.2.2.1 + ((List.range i).filter (sm_bit (sm_n (T t)))).length) o fs → rx_XA M a l x o → sl_at (M 22) u0 (cp_sp x.2.2.1 ++ ((List.range i).filter (sm_bit (sm_n (T t)))).map (fun c => nI (x.2.2.1 + c))) →
      (∀ M', rx_R M' (if sm_ks (sm_n (T t)) = [] then ((cp_fold s (cp_sp x.2.2.1 ++ (sm_ks (sm_n (T t))).map (fun c => nI (x.2.2.1 + c))) (sm_o (T t)) (x.2.2.1 + cn) (S0, u0 + x.2.2.1 + (sm_ks (sm_n (T t))).length)).2.1 ++ [cp_join 1 x.2.1 (cp_fold s (cp_sp x.2.2.1 ++ (sm_ks (sm_n (T t))).map (fun c => nI (x.2.2.1 + c))) (sm_o (T t)) (x.2.2.1 + cn) (S0, u0 + x.2.2.1 + (sm_ks (sm_n (T t))).length)).1 (cp_sp x.2.2.1) (cp_no (sm_o (T t)))], (cp_fold s (cp_sp x.2.2.1 ++ (sm_ks (sm_n (T t))).map (fun c => nI (x.2.2.1 + c))) (sm_o (T t)) (x.2.2.1 + cn) (S0, u0 + x.2.2.1 + (sm_ks (sm_n (T t))).length)).2.2 + x.2.2.1) else (cp_fold s (cp_sp x.2.2.1 ++ (sm_ks (sm_n (T t))).map (fun c => nI (x.2.2.1 + c))) (sm_o (T t)) (x.2.2.1 + cn) (S0, u0 + x.2.2.1 + (sm_ks (sm_n (T t))).length)).2) o fs → rx_pl u0 M M' → ak_fr 14 22 M M' →
        K (nI (if sm_ks (sm_n (T t)) = [] then (cp_fold s (cp_sp x.2.2.1 ++ (sm_ks (sm_n (T t))).map (fun c => nI (x.2.2.1 + c))) (sm_o (T t)) (x.2.2.1 + cn) (S0, u0 + x.2.2.1 + (sm_ks (sm_n (T t))).length)).2.1.length else (cp_fold s (cp_sp x.2.2.1 ++ (sm_ks (sm_n (T t))).map (fun c => nI (x.2.2.1 + c))) (sm_o (T t)) (x.2.2.1 + cn) (S0, u0 + x.2.2.1 + (sm_ks (sm_n (T t))).length)).1)) z M' L) →
      wRun (d + 1, 0, 0) mX3_groups 23 [some (.ref 23), some (.int (nI t)), some (.int (nI s)), some (.ref a), some (.int (nI u0)), some (.int (nI (x.2.2.1 + ((List.range i).filter (sm_bit (sm_n (T t)))).length))), some (.int (nI i))] [] z M L (wQi K)
  | 0, i, M, hi, hP, hX, hs, hK => by
    have hT := hP.1
    have hN := hT.2.1
    have hx32 := hX.2.2.2.2.1
    have ha := rx_op_sc hX.1 ho
    have ha23 : 22 < a := by rcases ha with h | ⟨j, h1, h2⟩ <;> omega
    obtain ⟨-, m5, -, -, m8, m9, -, -⟩ := hT.2.2 t ht
    have ei : i = 8 := by omega
    subst ei
    have hP : rx_Pre T N M (S0, u0 + x.2.2.1 + (sm_ks (sm_n (T t))).length) o fs := hP
    have hs : sl_at (M 22) u0 (cp_sp x.2.2.1 ++ (sm_ks (sm_n (T t))).map (fun c => nI (x.2.2.1 + c))) := hs
    have hkl : (sm_ks (sm_n (T t))).length ≤ 8 := Nat.le_trans (List.length_filter_le _ _) (by simp)
    have hlen : (cp_sp x.2.2.1 ++ (sm_ks (sm_n (T t))).map (fun c => nI (x.2.2.1 + c))).length = x.2.2.1 + (sm_ks (sm_n (T t))).length := by simp [cp_sp]
    show wRun (d + 1, 0, 0) mX3_groups 23 [some (.ref 23), some (.int (nI t)), some (.int (nI s)), some (.ref a), some (.int (nI u0)), some (.int (nI (x.2.2.1 + (sm_ks (sm_n (T t))).length))), some (.int (nI 8))] [] z M L (wQi K)
    refine fX3_groups_23 ⟨fun _ => ?_, fun q => absurd (nI_le (a := 8) (b := 8) (by omega) (by omega)) q⟩
    rw [nI_clamp (by omega), m5, m9, hcn, hX.2.2.2.1, nI_add]
    refine ⟨vp_in_nI (by omega) (by omega), rx_gO ha ⟨vp_in_nI (by omega) (by omega), ?_⟩⟩
    generalize hf : cp_fold s (cp_sp x.2.2.1 ++ (sm_ks (sm_n (T t))).map (fun c => nI (x.2.2.1 + c))) (sm_o (T t)) (x.2.2.1 + cn) (S0, u0 + x.2.2.1 + (sm_ks (sm_n (T t))).length) = f at hc hu hK
    refine rx_fold (p := u0) hd hP.2.1.1 hop (by rw [hlen]) (by rw [hlen]; show u0 + _ ≤ u0 + _ + _; omega) hs (by rw [hlen]; omega) (by omega) (by rw [hf]; omega) (by rw [hf]; omega) fun M1 a1 a2 a3 => ?_
    rw [hf] at a1 ⊢
    have e1 : M1 a = M a := a3 a (by omega)
    have hR1 := rx_R_st hP.2.1 a1 a3
    have p1 : rx_pl u0 M M1 := fun q hq => a2 q (by show q < u0 + _ + _; omega)
    refine rx_gO ha ⟨fun q => ?_, fun q => ?_⟩
    · rw [e1, hX.2.2.2.1, nI_leI (by omega) (by omega)] at q
      have e0 : sm_ks (sm_n (T t)) = [] := List.length_eq_zero_iff.mp (by omega)
      rw [if_pos e0] at hu hc
      simp only [if_pos e0] at hK
      refine rx_gO ha (rx_gO ha ?_)
      rw [e1, hX.2.2.2.1]
      refine rx_span (n := x.2.2.1) (by omega) a1 (by omega) rfl fun M2 b1 b2 b3 b4 => rx_gO ha ?_
      have e2 : M2 a = M a := (b4 a (by omega)).trans e1
      have m5' : M2 5 t = nI (sm_o (T t)) := by rw [b4 5 (by omega), a3 5 (by omega)]; exact m5
      rw [m5', e2, hX.2.2.2.1, hX.2.2.1]
      refine ⟨vp_in_nI (by omega) (by omega), rx_ofNone hop ?_⟩
      refine rx_join (p := f.2.2) (ls := cp_sp x.2.2.1) (by omega) b1 (by show f.2.1.length < _; omega) (by rw [cp_sp_len]) (by rw [cp_sp_len]; exact Nat.le_refl _) b3 fun M3 c1 c2 c3 => wQi_i (hK M3 (rx_R_st (rx_R_st hR1 b1 b4) c1 c3) ?_ (ak_fr_trans a3 (ak_fr_trans b4 c3)))
      have hle := (cp_le_len (cp_le_fold (s := s) (ls := cp_sp x.2.2.1 ++ (sm_ks (sm_n (T t))).map (fun c => nI (x.2.2.1 + c))) (kind := sm_o (T t)) (col := x.2.2.1 + cn) (σ := (S0, u0 + x.2.2.1 + (sm_ks (sm_n (T t))).length)))).2
      rw [hf] at hle
      have hle : u0 + x.2.2.1 + (sm_ks (sm_n (T t))).length ≤ f.2.2 := hle
      exact rx_pl_trans (u' := u0) p1 (fun q hq => (c2 q (by show q < f.2.2 + _; omega)).trans (b2 q (by omega))) (Nat.le_refl _)
    · rw [e1, hX.2.2.2.1, nI_leI (by omega) (by omega)] at q
      have e0 : ¬ sm_ks (sm_n (T t)) = [] := fun e => by rw [e] at q; exact q (Nat.le_refl _)
      simp only [if_neg e0] at hK
      exact wQi_i (hK M1 hR1 p1 a3)
  | n + 1, i, M, hi, hP, hX, hs, hK => by
    have hT := hP.1
    have hN := hT.2.1
    have ha := rx_op_sc hX.1 ho
    have ha23 : 22 < a := by rcases ha with h | ⟨j, h1, h2⟩ <;> omega
    obtain ⟨-, m5, -, -, m8, m9, -, -⟩ := hT.2.2 t ht
    have hfl : ((List.range i).filter (sm_bit (sm_n (T t)))).length ≤ i := Nat.le_trans (List.length_filter_le _ _) (by simp)
    have hkl : ((List.range (i + 1)).filter (sm_bit (sm_n (T t)))).length ≤ (sm_ks (sm_n (T t))).length := by
      refine List.Sublist.length_le (List.Sublist.filter _ ?_)
      have : i + 1 ≤ 8 := by omega
      exact List.range_sublist.mpr this
    have hle := (cp_le_len (cp_le_fold (s := s) (ls := cp_sp x.2.2.1 ++ (sm_ks (sm_n (T t))).map (fun c => nI (x.2.2.1 + c))) (kind := sm_o (T t)) (col := x.2.2.1 + cn) (σ := (S0, u0 + x.2.2.1 + (sm_ks (sm_n (T t))).length)))).2
    have hle : u0 + x.2.2.1 + (sm_ks (sm_n (T t))).length ≤ _ := hle
    have hrs : (List.range (i + 1)).filter (sm_bit (sm_n (T t))) = (List.range i).filter (sm_bit (sm_n (T t))) ++ (if sm_bit (sm_n (T t)) i = true then [i] else []) := by
      rw [List.range_succ, List.filter_append]
      congr 1
      cases h : sm_bit (sm_n (T t)) i <;> simp [h]
    refine fX3_groups_23 ⟨fun q => absurd q (by rw [ak_n8]; exact nI_ge (by omega) (by omega)), fun _ => ?_⟩
    rw [nI_clamp (by omega), m8, nI_1, nI_1]
    refine ⟨vp_in_nI (by omega) (by omega), fun q => ?_, fun q => ?_⟩
    · rw [sm_bit_iff] at q
      rw [if_pos q] at hrs
      rw [hrs, List.length_append, List.length_singleton] at hkl
      rw [hX.2.2.2.1, nI_add]
      refine rx_gO ha (rx_put hP.2.1.1 (by show u0 + x.2.2.1 + _ < _; omega) fun M1 a1 a2 a3 a4 => ?_)
      have P1 := rx_Po_of hP.2.1 a1 a3 a4
      have hP1 := rx_Pre_of hP P1
      have := rx_groups_23 (s := s) (a := a) (l := l) (u0 := u0) (x := x) (S0 := S0) (K := K) ht ho hop hcn hcl hd hc hu n (i + 1) M1 (by omega) (by rw [hrs, List.length_append, List.length_singleton, ← Nat.add_assoc]; exact hP1) (rx_XA_F hX P1.2.2 ho) ?_ fun M2 b1 b2 b3 => hK M2 b1 (rx_pl_trans (u' := u0) (fun q hq => a3 q (by show q < u0 + x.2.2.1 + _; omega)) b2 (Nat.le_refl _)) (ak_fr_trans a4 b3)
      · rw [hrs, List.length_append, List.length_singleton, ← Nat.add_assoc] at this
        exact this
      · have hlen : (cp_sp x.2.2.1 ++ ((List.range i).filter (sm_bit (sm_n (T t)))).map (fun c => nI (x.2.2.1 + c))).length = x.2.2.1 + ((List.range i).filter (sm_bit (sm_n (T t)))).length := by simp [cp_sp]
        rw [hrs, List.map_append, ← List.append_assoc, sl_app, hlen]
        refine ⟨rx_pl_sl a3 hs (by rw [hlen]; show u0 + _ ≤ u0 + x.2.2.1 + _; omega), sl_one.mpr ?_⟩
        rw [← Nat.add_assoc]; exact a2
    · rw [sm_bit_iff] at q
      rw [if_neg q, List.append_nil] at hrs
      have := rx_groups_23 (s := s) (a := a) (l := l) (u0 := u0) (x := x) (S0 := S0) (K := K) ht ho hop hcn hcl hd hc hu n (i + 1) M (by omega) (by rw [hrs]; exact hP) hX (by rw [hrs]; exact hs) hK
      rw [hrs] at this
      exact this
end RZ
