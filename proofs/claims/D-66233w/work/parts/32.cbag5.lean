/-! CONTRACTS of ApplyFree$Rewriter: folded, has -/
section RZ
variable {d : Nat} {z : wd_Z} {L : wd_L} {T : Nat → sm_T} {N : Nat} {tr : Nat → Nat} {M : wd_M} {σ : cp_S} {o : Nat} {fs : List Nat}
theorem rx_folded {n t a e w : Nat} {pl : Nat → Nat} {K : wd_Z → wd_M → wd_L → Prop} (HB : rx_BagC T N tr z L n) (ht : t < N) (han : sm_a (T t) < n) (haN : sm_a (T t) < N) (hak : 11 ≤ sm_k (T (sm_a (T t)))) (hd : 8 * sm_a (T t) + 9 ≤ d) (hP : rx_Pre T N M σ o fs)
    (hE : rx_EA M a (sm_l (T (sm_a (T t)))) e w pl o) (ho : o + 2 * sm_a (T t) + 3 ≤ 300) (hz : fs.length + sm_zc T tr (sm_a (T t)) ≤ 3000) (hf : fs.length < 3000) (hl : sm_l (T (sm_a (T t))) < 2 ^ 32) (hop : sm_o (T t) ≤ 5) (hcn : sm_c (T t) ≤ 100)
    (hc : (cp_fld T (cp T n).1 t e w pl σ).2.1.length ≤ 32768) (hu : (cp_fld T (cp T n).1 t e w pl σ).2.2 ≤ 524288)
    (hK : ∀ M', rx_Pa M σ o fs a (cp_fld T (cp T n).1 t e w pl σ) M' → K z M' L) : wRunV (d, 0, 0) mX3_folded [.ref 23, .int (nI t), .int (nI (sm_a (T t))), .ref a] z M L K := by
  obtain ⟨d, rfl, hd'⟩ := ak_deep hd
  have hN := hP.1.2.1
  obtain ⟨hsc, hopA, ha28⟩ := rx_EA_sc hE (by omega)
  unfold cp_fld at hc hu hK
  dsimp only at hc hu hK
  generalize hl0 : sm_l (T (sm_a (T t))) = l at hc hu hK hE hl
  generalize hr : (cp T n).1 (sm_a (T t)) (cp_chX l σ) (cp_ch l e pl σ) = r at hc hu hK
  generalize hff : cp_fold r.1 (cp_sp (cp_bits l).length) (sm_o (T t)) ((cp_bits l).length + sm_c (T t)) (r.2.1, r.2.2 + (cp_bits l).length) = f at hc hu hK
  simp only [List.length_append, List.length_singleton] at hc
  have mA : cp_le (cp_ch l e pl σ) r.2 := by rw [← hr]; exact (cp_mono T n).1 _ _ _
  have mF : cp_le (r.2.1, r.2.2 + (cp_bits l).length) f.2 := by rw [← hff]; exact cp_le_fold
  have lA := cp_le_len mA
  have lC := cp_le_len (cp_le_ch (l := l) (e := e) (pl := pl) (σ := σ))
  have lF := cp_le_len mF
  dsimp only at lF
  have hn := cp_bits_len (l := l)
  refine fX3_folded_e ?_
  refine rx_choices (T := T) (N := N) (t := sm_a (T t)) (e := e) (pl := pl) (by omega) hP.1 haN (by rw [hl0]; exact hl) hopA (by omega) hP.2.1 hE.2.1 (by rw [hl0]; exact hE.2.2.2) (by rw [hl0]; omega) (by rw [hl0]; omega) fun M1 R1 c0 c1 c2 c3 c4 c5 F1 => ?_
  rw [hl0] at R1 c1 c3 c4
  have hP1 := rx_Pre_open hP R1 F1 (Or.inr rfl)
  have sy : rx_sc (28 + 2 * o) := Or.inr ⟨o, by omega, rfl⟩
  refine HB _ han haN hak d M1 _ (o + 1) fs _ (cp_chX l σ) _ hd' hP1 (by rw [hl0]; exact rx_XA_ch c0 c1 c4) (by omega) hz (by rw [hr]; omega) (by rw [hr]; omega) fun M2 P2 => rx_gO sy ?_
  rw [hr] at P2 ⊢
  have y2 : M2 (28 + 2 * o) = M1 (28 + 2 * o) := P2.2.2 _ (by omega) (by omega)
  rw [y2, c1]
  refine rx_span (n := (cp_bits l).length) (by omega) P2.1.1 (by omega) rfl fun M3 s1 s2 s3 s4 => rx_gO sy ?_
  have y3 : M3 (28 + 2 * o) = M1 (28 + 2 * o) := (s4 _ (by omega)).trans y2
  have hP2 := rx_Pre_of hP1 P2
  have hP3 := rx_Pre_of hP2 (rx_Po_of P2.1 s1 s2 s4)
  obtain ⟨-, m5, -, -, -, m9, -, -⟩ := hP3.1.2.2 t ht
  rw [nI_clamp (by omega), y3, c1, m5, m9, nI_add]
  refine ⟨vp_in_nI (by omega) (by omega), rx_gO sy ⟨vp_in_nI (by omega) (by omega), ?_⟩⟩
  refine rx_fold (p := r.2.2) (ls := cp_sp (cp_bits l).length) (by omega) s1 hop (by rw [cp_sp_len]) (by rw [cp_sp_len]; exact Nat.le_refl _) s3 (by rw [cp_sp_len]; omega) (by omega) (by rw [hff]; omega) (by rw [hff]; omega) fun M4 f1 f2 f3 => ?_
  rw [hff] at f1 ⊢
  have y4 : M4 (28 + 2 * o) = M1 (28 + 2 * o) := (f3 _ (by omega)).trans y3
  have R4 := rx_R_st hP3.2.1 f1 f3
  have m5' : M4 5 t = nI (sm_o (T t)) := by rw [f3 5 (by omega)]; exact m5
  have G4 : rx_F o a M M4 := rx_F_trans (rx_F_ex F1) (rx_F_trans (rx_F_ex (rx_F_mono P2.2.2 (by omega))) (rx_F_trans (rx_F_of s4) (rx_F_of f3)))
  have a4 : M4 a = M a := by
    obtain ⟨⟨j, j1, j2⟩, -⟩ := hE
    rw [f3 a (by omega), s4 a (by omega), P2.2.2 a (by omega) (by omega), F1 a (by omega) (by omega)]
  refine rx_gO hsc (rx_gO sy (rx_gO sy ⟨vp_in_nI (by omega) (by omega), ?_⟩))
  rw [m5', y4, c1, c2, a4, hE.2.1]
  refine rx_ofNone hop ?_
  have P4 : rx_pl (σ.2 + (cp_bits l).length) M1 M4 := fun i hi => by
    have := lA.2
    have h1 : M4 22 i = M3 22 i := f2 i (by dsimp only; have : (cp_ch l e pl σ).2 = σ.2 + (cp_bits l).length := rfl; omega)
    have h2 : M3 22 i = M2 22 i := s2 i (by have : (cp_ch l e pl σ).2 = σ.2 + (cp_bits l).length := rfl; omega)
    have h3 : M2 22 i = M1 22 i := P2.2.1 i hi
    rw [h1, h2, h3]
  have lch : (cp_ch l e pl σ).2 = σ.2 + (cp_bits l).length := rfl
  refine rx_join (p := σ.2) (ls := cp_cl l pl) (by omega) f1 (by omega) (by rw [cp_cl_len]) (by rw [cp_cl_len]; omega) (rx_pl_sl P4 c3 (by rw [cp_cl_len]; exact Nat.le_refl _)) fun M5 g1 g2 g3 => ?_
  have R5 := rx_R_st R4 g1 g3
  have a5 : M5 a = M a := (g3 a (by omega)).trans a4
  refine rx_note (e := 0) (w := w) hsc R5 (by rw [a5]; exact hE.2.2.1) hf fun M6 R6 n1 n2 n3 => wQv_i (hK _ ⟨?_, ?_, ?_, fun i hi => ?_, ?_⟩)
  · exact rx_close (k := 1) R6
  · rw [ak_up_cell (by omega)]; exact n1
  · rw [ak_up_cell (by omega)]; exact n2
  · rw [ak_up_cell (by omega), n3 22 (by omega) (by omega) (by omega), g2 i (by omega), P4 i (by omega), c5 i hi]
  · refine rx_F_up (rx_F_trans G4 (rx_F_trans (rx_F_of g3) fun c hc hce => n3 c hce ?_ ?_)) (Or.inl rfl) <;> omega
theorem rx_has {n t a e w : Nat} {pl : Nat → Nat} {K : wd_Z → wd_M → wd_L → Prop} (HB : rx_BagC T N tr z L n) (ht : t < N) (han : sm_a (T t) < n) (haN : sm_a (T t) < N) (hak : 11 ≤ sm_k (T (sm_a (T t)))) (hd : 8 * sm_a (T t) + 9 ≤ d) (hP : rx_Pre T N M σ o fs)
    (hE : rx_EA M a (sm_l (T (sm_a (T t)))) e w pl o) (ho : o + 2 * sm_a (T t) + 3 ≤ 300) (hz : fs.length + sm_zc T tr (sm_a (T t)) ≤ 3000) (hf : fs.length < 3000) (hl : sm_l (T (sm_a (T t))) < 2 ^ 32)
    (hc : (cp_has T (cp T n).1 t e w pl σ).2.1.length ≤ 32768) (hu : (cp_has T (cp T n).1 t e w pl σ).2.2 ≤ 524288)
    (hK : ∀ M', rx_Pa M σ o fs a (cp_has T (cp T n).1 t e w pl σ) M' → K z M' L) : wRunV (d, 0, 0) mX3_has [.ref 23, .int (nI (sm_a (T t))), .ref a] z M L K := by
  obtain ⟨d, rfl, hd'⟩ := ak_deep hd
  have hN := hP.1.2.1
  obtain ⟨hsc, hopA, ha28⟩ := rx_EA_sc hE (by omega)
  unfold cp_has at hc hu hK
  dsimp only at hc hu hK
  generalize hl0 : sm_l (T (sm_a (T t))) = l at hc hu hK hE hl
  generalize hr : (cp T n).1 (sm_a (T t)) (cp_chX l σ) (cp_ch l e pl σ) = r at hc hu hK
  simp only [List.length_append, List.length_cons, List.length_nil] at hc
  have mA : cp_le (cp_ch l e pl σ) r.2 := by rw [← hr]; exact (cp_mono T n).1 _ _ _
  have lA := cp_le_len mA
  have lC := cp_le_len (cp_le_ch (l := l) (e := e) (pl := pl) (σ := σ))
  have hn := cp_bits_len (l := l)
  have lch : (cp_ch l e pl σ).2 = σ.2 + (cp_bits l).length := rfl
  refine fX3_has_e ?_
  refine rx_choices (T := T) (N := N) (t := sm_a (T t)) (e := e) (pl := pl) (by omega) hP.1 haN (by rw [hl0]; exact hl) hopA (by omega) hP.2.1 hE.2.1 (by rw [hl0]; exact hE.2.2.2) (by rw [hl0]; omega) (by rw [hl0]; omega) fun M1 R1 c0 c1 c2 c3 c4 c5 F1 => ?_
  rw [hl0] at R1 c1 c3 c4
  have hP1 := rx_Pre_open hP R1 F1 (Or.inr rfl)
  have sy : rx_sc (28 + 2 * o) := Or.inr ⟨o, by omega, rfl⟩
  refine HB _ han haN hak d M1 _ (o + 1) fs _ (cp_chX l σ) _ hd' hP1 (by rw [hl0]; exact rx_XA_ch c0 c1 c4) (by omega) hz (by rw [hr]; omega) (by rw [hr]; omega) fun M2 P2 => rx_gO sy ?_
  rw [hr] at P2 ⊢
  have y2 : M2 (28 + 2 * o) = M1 (28 + 2 * o) := P2.2.2 _ (by omega) (by omega)
  rw [y2, c1]
  refine rx_pickFirst (n := (cp_bits l).length) (by omega) P2.1.1 (by omega) (by omega) rfl fun M3 s1 s2 s4 => ?_
  refine rx_uniq (by omega) s1 (by simp only [List.length_append, List.length_singleton]; omega) fun M4 f1 f2 f3 => ?_
  have F4 := ak_fr_trans s4 f3
  have e1 : (r.2.1 ++ [cp_pick r.1 (cp_sp (cp_bits l).length)]).length = r.2.1.length + 1 := by simp
  have f1 : rx_S M4 (r.2.1 ++ [cp_pick r.1 (cp_sp (cp_bits l).length)] ++ [cp_uniq r.2.1.length], r.2.2 + (cp_bits l).length) := f1
  have y4 : M4 (28 + 2 * o) = M1 (28 + 2 * o) := (F4 _ (by omega)).trans y2
  have R4 := rx_R_st P2.1 f1 F4
  have a4 : M4 a = M a := by
    obtain ⟨⟨j, j1, j2⟩, -⟩ := hE
    rw [F4 a (by omega), P2.2.2 a (by omega) (by omega), F1 a (by omega) (by omega)]
  have G4 : rx_F o a M M4 := rx_F_trans (rx_F_ex F1) (rx_F_trans (rx_F_ex (rx_F_mono P2.2.2 (by omega))) (rx_F_of F4))
  refine rx_gO hsc (rx_gO sy (rx_gO sy ?_))
  show wRunI (d, 0, 0) mX2_join [.ref 14, .int 4, .int (M4 a 0), .int (nI (r.2.1 ++ [cp_pick r.1 (cp_sp (cp_bits l).length)]).length), .int (M4 (28 + 2 * o) 3), .int (M4 (28 + 2 * o) 1), .int 0] z M4 L _
  rw [e1, y4, c1, c2, a4, hE.2.1]
  have P4 : rx_pl (σ.2 + (cp_bits l).length) M1 M4 := fun i hi => by
    have h1 : M4 22 i = M3 22 i := f2 i (by dsimp only; omega)
    have h2 : M3 22 i = M2 22 i := s2 i (by omega)
    have h3 : M2 22 i = M1 22 i := P2.2.1 i hi
    rw [h1, h2, h3]
  refine rx_join (p := σ.2) (ls := cp_cl l pl) (by omega) f1 (by simp only [List.length_append, List.length_singleton]; omega) (by rw [cp_cl_len]) (by rw [cp_cl_len]; dsimp only; omega) (rx_pl_sl P4 c3 (by rw [cp_cl_len]; exact Nat.le_refl _)) fun M5 g1 g2 g3 => ?_
  have R5 := rx_R_st R4 g1 g3
  have a5 : M5 a = M a := (g3 a (by omega)).trans a4
  have e2 : (r.2.1 ++ [cp_pick r.1 (cp_sp (cp_bits l).length)] ++ [cp_uniq r.2.1.length]).length = r.2.1.length + 2 := by simp
  show wRunV (d, 0, 0) mX3_note [.ref 23, .ref a, .int (nI (r.2.1 ++ [cp_pick r.1 (cp_sp (cp_bits l).length)] ++ [cp_uniq r.2.1.length]).length)] z M5 L _
  rw [e2]
  refine rx_note (e := 0) (w := w) hsc R5 (by rw [a5]; exact hE.2.2.1) hf fun M6 R6 n1 n2 n3 => wQv_i (hK _ ⟨?_, ?_, ?_, fun i hi => ?_, ?_⟩)
  · have := rx_close (k := 1) R6
    simp only [List.append_assoc, List.cons_append, List.nil_append] at this
    exact this
  · rw [ak_up_cell (by omega)]; exact n1
  · rw [ak_up_cell (by omega)]; exact n2
  · rw [ak_up_cell (by omega), n3 22 (by omega) (by omega) (by omega), g2 i (by dsimp only; omega), P4 i (by omega), c5 i hi]
  · refine rx_F_up (rx_F_trans G4 (rx_F_trans (rx_F_of g3) fun c hc hce => n3 c hce ?_ ?_)) (Or.inl rfl) <;> omega
end RZ
