/-! CONTRACTS of ApplyFree$Rewriter: apply, folded, has, quantified -/
theorem cp_rank_X {l : Nat} {σ : cp_S} : (cp_chX l σ).2.2.1 ≤ 32 := cp_bits_len
/-- the scope of choices, as it was made -/
theorem rx_XA_ch {M' : wd_M} {l o : Nat} {σ : cp_S} (h0 : M' (28 + 2 * o) 0 = nI (σ.1.length + 1)) (h1 : M' (28 + 2 * o) 1 = nI (cp_bits l).length) (hp : ∀ k, k < 32 → l.testBit k = true → M' (28 + 2 * o + 1) k = nI (cp_rank l k)) : rx_XA M' (28 + 2 * o) l (cp_chX l σ) (o + 1) :=
  ⟨Or.inr ⟨o, by omega, rfl⟩, ⟨fun q => (by cases q), fun q => (by omega)⟩, h0, h1, cp_bits_len, hp⟩
section RZ
variable {d : Nat} {z : wd_Z} {L : wd_L} {T : Nat → sm_T} {N : Nat} {tr : Nat → Nat} {M : wd_M} {σ : cp_S} {o : Nat} {fs : List Nat}
theorem rx_Pre_open {M' : wd_M} {σ' : cp_S} {o' : Nat} {fs' : List Nat} (hP : rx_Pre T N M σ o fs) (hR : rx_R M' σ' o' fs') {ex : Nat} (hF : rx_F o ex M M') (he : 26 ≤ ex ∨ ex = 23) : rx_Pre T N M' σ' o' fs' := by
  have e : M' 24 = M 24 := hF 24 (by omega) (by omega)
  exact ⟨rx_F_T hF (by omega) hP.1, hR, by rw [e]; exact hP.2.2.1, by rw [e]; exact hP.2.2.2⟩
theorem rx_apply {n a b s k : Nat} {x : cp_X} {K : Int32 → wd_Z → wd_M → wd_L → Prop} (HB : rx_BagC T N tr z L n) (ha : a < n) (hb : b < n) (haN : a < N) (hbN : b < N) (hak : 11 ≤ sm_k (T a)) (hbk : 11 ≤ sm_k (T b)) (hd : 8 * a + 9 ≤ d ∧ 8 * b + 9 ≤ d) (hP : rx_Pre T N M σ o fs)
    (hX : rx_XA M s (sm_l (T a) ||| sm_l (T b) >>> 8) x o) (ho : o + 2 * a + 2 ≤ 300 ∧ o + 2 * b + 4 ≤ 300) (hz : fs.length + sm_zc T tr a ≤ 3000 ∧ fs.length + sm_zc T tr b ≤ 3000) (hl : sm_l (T b) < 2 ^ 32)
    (hc : (cp_apply T (cp T n).1 k a b x σ).2.1.length ≤ 32768) (hu : (cp_apply T (cp T n).1 k a b x σ).2.2 ≤ 524288)
    (hK : ∀ M', rx_Po M σ o fs (cp_apply T (cp T n).1 k a b x σ).2 M' → K (nI (cp_apply T (cp T n).1 k a b x σ).1) z M' L) : wRunI (d, 0, 0) mX3_apply [.ref 23, .int (nI k), .int (nI a), .int (nI b), .ref s] z M L K := by
  obtain ⟨d, rfl, hd'⟩ := ak_deep (k := 8 * a + 8) hd.1
  have hd2 : 8 * b + 8 ≤ d := by omega
  have hN := hP.1.2.1
  have hsc := rx_op_sc hX.1 (by omega)
  refine fX3_apply_e ?_
  unfold cp_apply at hc hu hK
  dsimp only at hc hu hK
  generalize hr : (cp T n).1 a x σ = r at hc hu hK
  generalize hq : (cp T n).1 b (cp_chX (sm_l (T b)) r.2) (cp_ch (sm_l (T b)) r.1 (cp_apl x) r.2) = q at hc hu hK
  simp only [List.length_append, List.length_singleton] at hc
  have mA : cp_le σ r.2 := by rw [← hr]; exact (cp_mono T n).1 a x σ
  have mB : cp_le (cp_ch (sm_l (T b)) r.1 (cp_apl x) r.2) q.2 := by rw [← hq]; exact (cp_mono T n).1 b _ _
  have mC : cp_le r.2 (cp_ch (sm_l (T b)) r.1 (cp_apl x) r.2) := cp_le_ch
  have lA := cp_le_len mA
  have lB := cp_le_len mB
  have lC := cp_le_len mC
  refine HB a ha haN hak d M σ o fs s x _ hd' hP (rx_XA_sub hX fun k h => by rw [Nat.testBit_or, h, Bool.true_or]) ho.1 hz.1 (by rw [hr]; omega) (by rw [hr]; omega) fun M1 P1 => ?_
  rw [hr] at P1 ⊢
  have hP1 := rx_Pre_of hP P1
  have hX1 := rx_XA_F hX P1.2.2 (by omega)
  obtain ⟨-, -, -, -, -, -, m10, -⟩ := hP1.1.2.2 a haN
  rw [nI_clamp (by omega), m10]
  refine ⟨vp_in_nI (by omega) (by omega), ?_⟩
  refine rx_around (s := r.1) (w := x.2.2.1) (w0 := sm_w (T a)) (l' := sm_l (T b)) (pl := x.2.2.2) hX1.1 (by omega) hP1.2.1 hX1.2.2.2.1 (fun k k1 k2 => hX1.2.2.2.2.2 k (by omega) ?_) fun M2 R2 e0 e1 e2 e3 F2 => ?_
  · rw [Nat.testBit_or, Nat.testBit_shiftRight, Nat.add_comm 8 k, k2, Bool.or_true]
  have hP2 := rx_Pre_open hP1 R2 F2 (Or.inr rfl)
  have eP : rx_op (o + 1) (28 + 2 * o) := Or.inr ⟨o, by omega, rfl⟩
  refine rx_choices (t := b) (e := r.1) (pl := cp_apl x) (by omega) hP2.1 hbN hl eP (by omega) R2 e0 e2 (by omega) (by omega) fun M3 R3 c0 c1 c2 c3 c4 c5 F3 => ?_
  have hP3 := rx_Pre_open hP2 R3 F3 (Or.inr rfl)
  have hX3 : rx_XA M3 (28 + 2 * (o + 1)) (sm_l (T b)) (cp_chX (sm_l (T b)) r.2) (o + 1 + 1) := rx_XA_ch c0 c1 c4
  refine HB b hb hbN hbk d M3 _ (o + 1 + 1) fs _ (cp_chX (sm_l (T b)) r.2) _ hd2 hP3 hX3 (by omega) hz.2 (by rw [hq]; omega) (by rw [hq]; omega) fun M4 P4 => ?_
  rw [hq] at P4 ⊢
  have s1 : rx_sc (28 + 2 * o) := Or.inr ⟨o, by omega, rfl⟩
  have s2 : rx_sc (28 + 2 * (o + 1)) := Or.inr ⟨o + 1, by omega, rfl⟩
  have f1 : M4 (28 + 2 * o) = M3 (28 + 2 * o) := P4.2.2 _ (by omega) (by omega)
  have f2 : M4 (28 + 2 * (o + 1)) = M3 (28 + 2 * (o + 1)) := P4.2.2 _ (by omega) (by omega)
  have f3 : M3 (28 + 2 * o) = M2 (28 + 2 * o) := F3 _ (by omega) (by omega)
  refine rx_gO s1 (rx_gO s2 (rx_gO s2 ?_))
  rw [f1, f2, f3, e0, c1, c2]
  refine rx_join (p := r.2.2) (ls := cp_cl (sm_l (T b)) (cp_apl x)) (by omega) P4.1.1 (by omega) (by rw [cp_cl_len]) (by rw [cp_cl_len]; exact lB.2) (rx_pl_sl P4.2.1 c3 (by rw [cp_cl_len]; exact Nat.le_refl _)) fun M5 g1 g2 g3 => wQi_i (hK _ ?_)
  have R5 : rx_R M5 (q.2.1 ++ [cp_join (nI k) r.1 q.1 (cp_cl (sm_l (T b)) (cp_apl x)) (-2147483648 : Int32)], q.2.2) (o + 2) fs := rx_R_st P4.1 g1 g3
  refine ⟨rx_close R5, fun i hi => ?_, ?_⟩
  · have : M5 22 i = M 22 i := by
      rw [g2 i (by omega), P4.2.1 i (by omega), c5 i (by omega), e3 i (by omega), P1.2.1 i hi]
    rw [ak_up_cell (by omega)]; exact this
  · refine rx_F_up ?_ (Or.inl rfl)
    refine rx_F_trans P1.2.2 (rx_F_trans F2 (rx_F_trans (rx_F_mono F3 (by omega)) (rx_F_trans (rx_F_mono P4.2.2 (by omega)) (rx_F_of g3))))
end RZ
