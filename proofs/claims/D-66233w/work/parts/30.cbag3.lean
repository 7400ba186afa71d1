/-! CONTRACTS of ApplyFree$Rewriter: groups, pairs, apply, marked, folded, has -/
section RZ
variable {d : Nat} {z : wd_Z} {L : wd_L} {T : Nat → sm_T} {N : Nat} {tr : Nat → Nat} {M : wd_M} {σ : cp_S} {o : Nat} {fs : List Nat}
theorem rx_groups {t s a l : Nat} {x : cp_X} {K : Int32 → wd_Z → wd_M → wd_L → Prop} (hd : 4 ≤ d) (ht : t < N) (hP : rx_Pre T N M σ o fs) (hX : rx_XA M a l x o) (ho : o ≤ 300) (hop : sm_o (T t) ≤ 5) (hcl : sm_c (T t) ≤ 100) (f : Nat × cp_S)
    (hf : f = cp_fold s (cp_sp x.2.2.1 ++ (sm_ks (sm_n (T t))).map (fun c => nI (x.2.2.1 + c))) (sm_o (T t)) (x.2.2.1 + sm_c (T t)) (σ.1, σ.2 + x.2.2.1 + (sm_ks (sm_n (T t))).length))
    (hc : f.2.1.length + (if sm_ks (sm_n (T t)) = [] then 1 else 0) ≤ 32768) (hu : f.2.2 + (if sm_ks (sm_n (T t)) = [] then x.2.2.1 else 0) ≤ 524288)
    (hK : ∀ M', rx_Po M σ o fs (if sm_ks (sm_n (T t)) = [] then (f.2.1 ++ [cp_join 1 x.2.1 f.1 (cp_sp x.2.2.1) (cp_no (sm_o (T t)))], f.2.2 + x.2.2.1) else f.2) M' → K (nI (if sm_ks (sm_n (T t)) = [] then f.2.1.length else f.1)) z M' L) :
    wRunI (d, 0, 0) mX3_groups [.ref 23, .int (nI t), .int (nI s), .ref a] z M L K := by
  obtain ⟨d, rfl, hd'⟩ := ak_deep hd
  have ha := rx_op_sc hX.1 ho
  have ha23 : 22 < a := by rcases ha with h | ⟨j, h1, h2⟩ <;> omega
  have hle := (cp_le_len (cp_le_fold (s := s) (ls := cp_sp x.2.2.1 ++ (sm_ks (sm_n (T t))).map (fun c => nI (x.2.2.1 + c))) (kind := sm_o (T t)) (col := x.2.2.1 + sm_c (T t)) (σ := (σ.1, σ.2 + x.2.2.1 + (sm_ks (sm_n (T t))).length)))).2
  rw [← hf] at hle
  have hle : σ.2 + x.2.2.1 + (sm_ks (sm_n (T t))).length ≤ f.2.2 := hle
  refine fX3_groups_e (rx_gO ha ?_)
  rw [hX.2.2.2.1]
  refine rx_span (n := x.2.2.1) (by omega) hP.2.1.1 (by omega) rfl fun M1 a1 a2 a3 a4 => rx_gO ha ?_
  have P1 := rx_Po_of hP.2.1 a1 a2 a4
  have hX1 := rx_XA_F hX P1.2.2 ho
  rw [hX1.2.2.2.1, ak_n0]
  subst hf
  have := rx_groups_23 (d := d) (z := z) (L := L) (T := T) (N := N) (s := s) (a := a) (l := l) (u0 := σ.2) (x := x) (S0 := σ.1) (K := K) (o := o) (fs := fs) ht ho hop rfl hcl (by omega) hc hu 8 0 M1 rfl (by simpa using rx_Pre_of hP P1) hX1 (by simpa using a3) fun M2 b1 b2 b3 => hK M2 ⟨b1, rx_pl_trans a2 b2 (Nat.le_refl _), rx_F_of (ak_fr_trans a4 b3)⟩
  simpa using this
theorem rx_pairs {n a b s : Nat} {x : cp_X} {K : Int32 → wd_Z → wd_M → wd_L → Prop} (HB : rx_BagC T N tr z L n) (ha : a < n) (hb : b < n) (haN : a < N) (hbN : b < N) (hak : 11 ≤ sm_k (T a)) (hbk : 11 ≤ sm_k (T b)) (hd : 8 * a + 9 ≤ d ∧ 8 * b + 9 ≤ d) (hP : rx_Pre T N M σ o fs)
    (hX : rx_XA M s (sm_l (T a) ||| sm_l (T b)) x o) (ho : o + 2 * a + 2 ≤ 300 ∧ o + 2 * b + 2 ≤ 300) (hz : fs.length + sm_zc T tr a ≤ 3000 ∧ fs.length + sm_zc T tr b ≤ 3000) (hl : sm_l (T b) < 2 ^ 32)
    (hc : (cp_pairs T (cp T n).1 a b x σ).2.1.length ≤ 32768) (hu : (cp_pairs T (cp T n).1 a b x σ).2.2 ≤ 524288)
    (hK : ∀ M', rx_Po M σ o fs (cp_pairs T (cp T n).1 a b x σ).2 M' → K (nI (cp_pairs T (cp T n).1 a b x σ).1) z M' L) : wRunI (d, 0, 0) mX3_pairs [.ref 23, .int (nI a), .int (nI b), .ref s] z M L K := by
  obtain ⟨d, rfl, hd'⟩ := ak_deep (k := 8 * a + 8) hd.1
  have hd2 : 8 * b + 8 ≤ d := by omega
  have o1 : ∀ k, (sm_l (T a)).testBit k = true → (sm_l (T a) ||| sm_l (T b)).testBit k = true := fun k h => by rw [Nat.testBit_or, h, Bool.true_or]
  have o2 : ∀ k, (sm_l (T b)).testBit k = true → (sm_l (T a) ||| sm_l (T b)).testBit k = true := fun k h => by rw [Nat.testBit_or, h, Bool.or_true]
  have hsc := rx_op_sc hX.1 (by omega)
  have hs23 : 22 < s := by rcases hsc with h | ⟨j, h1, h2⟩ <;> omega
  have hN := hP.1.2.1
  refine fX3_pairs_e ?_
  unfold cp_pairs at hc hu hK
  dsimp only at hc hu hK
  have mA := cp_le_len ((cp_mono T n).1 a x σ)
  have fb : ((cp T n).1 a x σ).2.1.length ≤ 32768 ∧ ((cp T n).1 a x σ).2.2 ≤ 524288 := by
    split at hc
    · rename_i q
      rw [if_pos q] at hu
      have m1 := cp_le_len ((cp_mono T n).1 b cp_U ((cp T n).1 a x σ).2)
      simp only [List.length_append] at hc
      exact ⟨by omega, by dsimp only at hu; omega⟩
    · rename_i q
      rw [if_neg q] at hu
      have m1 := cp_le_len ((cp_mono T n).1 b x ((cp T n).1 a x σ).2)
      simp only [List.length_append] at hc
      exact ⟨by omega, by dsimp only at hu; omega⟩
  refine HB a ha haN hak d M σ o fs s x _ hd' hP (rx_XA_sub hX o1) ho.1 hz.1 fb.1 fb.2 fun M1 P1 => ?_
  have hP1 := rx_Pre_of hP P1
  have hX1 := rx_XA_F hX P1.2.2 (by omega)
  obtain ⟨-, -, -, -, -, -, -, m11⟩ := hP1.1.2.2 b hbN
  rw [nI_clamp (by omega), m11]
  refine ⟨vp_in_nI (by omega) (by omega), fun q => ?_, fun q => ?_⟩
  · have q : sm_l (T b) = 0 := by
      have e := congrArg (fun v : Int32 => v.toBitVec.toNat) q
      have e : (nI (sm_l (T b))).toBitVec.toNat = (0 : Int32).toBitVec.toNat := e
      rw [pk_tn hl] at e
      exact e
    rw [if_pos q] at hc hu
    simp only [if_pos q] at hK
    simp only [List.length_append] at hc
    refine HB b hb hbN hbk d M1 _ o fs 24 cp_U _ hd2 hP1 (by rw [q]; exact rx_XA_U hP1) ho.2 hz.2 (by omega) hu fun M2 P2 => ?_
    refine rx_cross (by omega) P2.1.1 (by simp only [List.length_singleton] at hc; omega) fun M3 c1 c2 c3 => wQi_i (hK M3 ?_)
    have m1 := cp_le_len ((cp_mono T n).1 b cp_U ((cp T n).1 a x σ).2)
    exact rx_Po_trans P1 (rx_Po_trans P2 (rx_Po_of P2.1 c1 c2 c3) m1.2) mA.2
  · have q : ¬ sm_l (T b) = 0 := fun e => q (by rw [e]; rfl)
    rw [if_neg q] at hc hu
    simp only [if_neg q] at hK
    simp only [List.length_append, List.length_singleton] at hc
    dsimp only at hu
    refine HB b hb hbN hbk d M1 _ o fs s x _ hd2 hP1 (rx_XA_sub hX1 o2) ho.2 hz.2 (by omega) (by omega) fun M2 P2 => rx_gO hsc ?_
    have hX2 := rx_XA_F hX1 P2.2.2 (by omega)
    rw [hX2.2.2.2.1]
    refine rx_span (n := x.2.2.1) (by omega) P2.1.1 (by omega) rfl fun M3 c1 c2 c3 c4 => rx_gO hsc ?_
    rw [c4 s (by omega), hX2.2.2.2.1]
    have m1 := cp_le_len ((cp_mono T n).1 b x ((cp T n).1 a x σ).2)
    have P3 := rx_Po_of P2.1 c1 c2 c4
    refine rx_join (by omega) c1 (by dsimp only; omega) (by rw [cp_sp_len]) (by rw [cp_sp_len]; exact Nat.le_refl _) c3 fun M4 e1 e2 e3 => wQi_i (hK M4 ?_)
    exact rx_Po_trans P1 (rx_Po_trans P2 (rx_Po_trans P3 (rx_Po_of P3.1 e1 e2 e3) (Nat.le_add_right _ _)) m1.2) mA.2
/-- a mark: the steps that give it -/
theorem rx_marked {a met e w n test : Nat} {p : Nat} {ls : List Int32} {K : wd_Z → wd_M → wd_L → Prop} (hd : 3 ≤ d) (hP : rx_Pre T N M σ o fs) (ha : ∃ j, j < o ∧ a = 28 + 2 * j) (ho : o ≤ 300) (he : M a 0 = nI e) (hw : M a 1 = nI w) (hls : ls.length = n + 1) (hp : p + (n + 1) ≤ σ.2) (hs : sl_at (M 22) p ls)
    (hc : σ.1.length + 4 ≤ 32768) (hu : σ.2 + (5 + (n + 1)) ≤ 524288)
    (hK : ∀ M', rx_R M' (σ.1 ++ cp_mark met e (σ.1.length) n test ls, σ.2 + (5 + (n + 1))) o fs → M' a 0 = nI (σ.1.length + 3) → M' a 1 = nI (w + 1) → rx_pl σ.2 M M' → rx_F o a M M' → K z M' L) :
    wRunV (d, 0, 0) mX3_marked [.ref 23, .ref a, .int (nI met), .int (nI p), .int (nI n), .int (nI test)] z M L K := by
  obtain ⟨d, rfl, hd'⟩ := ak_deep hd
  obtain ⟨j, ha1, ha2⟩ := ha
  have hsc : rx_sc a := Or.inr ⟨j, by omega, ha2⟩
  refine fX3_marked_e ?_
  rw [ak_n16, nI_add, nI_1, hP.2.1.1.2.1]
  refine rx_put hP.2.1.1 (by omega) fun M1 a1 a2 a3 a4 => ?_
  refine rx_put a1 (by show σ.2 + 1 < _; omega) fun M2 b1 b2 b3 b4 => ?_
  refine rx_put b1 (by show σ.2 + 1 + 1 < _; omega) fun M3 c1 c2 c3 c4 => ?_
  refine rx_put c1 (by show σ.2 + 1 + 1 + 1 < _; omega) fun M4 e1 e2 e3 e4 => ?_
  refine rx_put e1 (by show σ.2 + 1 + 1 + 1 + 1 < _; omega) fun M5 f1 f2 f3 f4 => ?_
  have F5 : ak_fr 14 22 M M5 := ak_fr_trans a4 (ak_fr_trans b4 (ak_fr_trans c4 (ak_fr_trans e4 f4)))
  have f3 : rx_pl (σ.2 + 4) M4 M5 := f3
  have e3 : rx_pl (σ.2 + 3) M3 M4 := e3
  have c3 : rx_pl (σ.2 + 2) M2 M3 := c3
  have b3 : rx_pl (σ.2 + 1) M1 M2 := b3
  have f2 : M5 22 (σ.2 + 4) = _ := f2
  have e2 : M4 22 (σ.2 + 3) = _ := e2
  have c2 : M3 22 (σ.2 + 2) = _ := c2
  have b2 : M2 22 (σ.2 + 1) = _ := b2
  have P5 : rx_pl σ.2 M M5 := fun i hi => by rw [f3 i (by omega), e3 i (by omega), c3 i (by omega), b3 i (by omega), a3 i hi]
  have hprog : sl_at (M5 22) σ.2 [1, nI n, 1, nI (n + 1), nI (16 + test)] := by
    refine sl_cons.mpr ⟨?_, sl_cons.mpr ⟨?_, sl_cons.mpr ⟨?_, sl_cons.mpr ⟨?_, sl_one.mpr ?_⟩⟩⟩⟩
    · rw [f3 _ (by omega), e3 _ (by omega), c3 _ (by omega), b3 _ (by omega), a2]
    · rw [f3 _ (by omega), e3 _ (by omega), c3 _ (by omega), b2]
    · rw [f3 _ (by omega), e3 _ (by omega)]; exact c2
    · rw [f3 _ (by omega)]; exact e2
    · exact f2
  have f1 : rx_S M5 (σ.1, σ.2 + 5) := f1
  refine rx_sel (p := σ.2) (ls := [1, nI n, 1, nI (n + 1), nI (16 + test)]) (l := met) (by omega) f1 (by show σ.1.length < _; omega) rfl hprog fun M6 g1 g2 g3 => ?_
  have g1 : rx_S M6 (σ.1 ++ [cp_sel met [1, nI n, 1, nI (n + 1), nI (16 + test)]], σ.2 + 5) := g1
  have g2 : rx_pl (σ.2 + 5) M5 M6 := g2
  have l6 : (σ.1 ++ [cp_sel met [1, nI n, 1, nI (n + 1), nI (16 + test)]]).length = σ.1.length + 1 := by simp
  refine rx_pickFirst (n := n + 1) (l := σ.1.length) (by omega) g1 (by rw [l6]; omega) (by show σ.2 + 5 + (n + 1) ≤ _; omega) rfl fun M7 i1 i2 i3 => ?_
  have i2 : rx_pl (σ.2 + 5) M6 M7 := i2
  have l7 : (σ.1 ++ [cp_sel met [1, nI n, 1, nI (n + 1), nI (16 + test)]] ++ [cp_pick σ.1.length (cp_sp (n + 1))]).length = σ.1.length + 2 := by simp
  have i1 : rx_S M7 (σ.1 ++ [cp_sel met [1, nI n, 1, nI (n + 1), nI (16 + test)]] ++ [cp_pick σ.1.length (cp_sp (n + 1))], σ.2 + 5 + (n + 1)) := i1
  show wRunI (d, 0, 0) mX2_unique [.ref 14, .int (nI (σ.1 ++ [cp_sel met [1, nI n, 1, nI (n + 1), nI (16 + test)]]).length)] z M7 L _
  rw [l6]
  refine rx_uniq (l := σ.1.length + 1) (by omega) i1 (by rw [l7]; omega) fun M8 k1 k2 k3 => rx_gO hsc ?_
  have k2 : rx_pl (σ.2 + 5 + (n + 1)) M7 M8 := k2
  have k1 : rx_S M8 (σ.1 ++ [cp_sel met [1, nI n, 1, nI (n + 1), nI (16 + test)]] ++ [cp_pick σ.1.length (cp_sp (n + 1))] ++ [cp_uniq (σ.1.length + 1)], σ.2 + 5 + (n + 1)) := k1
  have l8 : (σ.1 ++ [cp_sel met [1, nI n, 1, nI (n + 1), nI (16 + test)]] ++ [cp_pick σ.1.length (cp_sp (n + 1))] ++ [cp_uniq (σ.1.length + 1)]).length = σ.1.length + 3 := by simp
  have F8 : ak_fr 14 22 M M8 := ak_fr_trans F5 (ak_fr_trans g3 (ak_fr_trans i3 k3))
  have P8 : rx_pl σ.2 M M8 := fun q hq => by rw [k2 q (by omega), i2 q (by omega), g2 q (by omega), P5 q hq]
  rw [F8 a (by omega), he]
  show wRunI (d, 0, 0) mX2_join [.ref 14, .int 4, .int (nI e), .int (nI (σ.1 ++ [cp_sel met [1, nI n, 1, nI (n + 1), nI (16 + test)]] ++ [cp_pick σ.1.length (cp_sp (n + 1))]).length), .int (nI p), .int (nI (n + 1)), .int 0] z M8 L _
  rw [l7]
  refine rx_join (p := p) (ls := ls) (by omega) k1 (by rw [l8]; omega) (by rw [hls]) (by rw [hls]; show p + (n + 1) ≤ σ.2 + 5 + (n + 1); omega) (rx_pl_sl P8 hs (by rw [hls]; exact hp)) fun M9 m1 m2 m3 => rx_gP0 hsc (rx_gO hsc (rx_gP1 hsc ?_))
  have m2 : rx_pl (σ.2 + 5 + (n + 1)) M8 M9 := m2
  have F9 : ak_fr 14 22 M M9 := ak_fr_trans F8 m3
  show wQv K none (wd z (am_up2 (am_up2 M9 a 0 (nI (σ.1 ++ [cp_sel met [1, nI n, 1, nI (n + 1), nI (16 + test)]] ++ [cp_pick σ.1.length (cp_sp (n + 1))] ++ [cp_uniq (σ.1.length + 1)]).length)) a 1 _) L)
  rw [l8, ak_up_ne (by omega), F9 a (by omega), hw, nI_1]
  have m1 : rx_S M9 (σ.1 ++ cp_mark met e σ.1.length n test ls, σ.2 + (5 + (n + 1))) := by
    have e0 : σ.2 + (5 + (n + 1)) = σ.2 + 5 + (n + 1) := by omega
    rw [e0]
    unfold cp_mark
    simpa [List.append_assoc] using m1
  have R9 := rx_R_st hP.2.1 m1 F9
  refine wQv_i (hK _ ⟨rx_S_fr m1 fun c q1 q2 => by rw [ak_up_cell (by omega), ak_up_cell (by omega)], by rw [ak_up_cell (by omega), ak_up_cell (by omega)]; exact R9.2.1, rx_fd_fr R9.2.2 (by rw [ak_up_cell (by omega), ak_up_cell (by omega)]) (by rw [ak_up_cell (by omega), ak_up_cell (by omega)])⟩ (by rw [ak_up_ne (by omega), ak_up_same]) ak_up_same (fun q hq => ?_) fun c hc he' => ?_)
  · rw [ak_up_cell (by omega), ak_up_cell (by omega), m2 q (by omega), P8 q hq]
  · rw [ak_up_cell he', ak_up_cell he', F9 c (by omega)]
end RZ
