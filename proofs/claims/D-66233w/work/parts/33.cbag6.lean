/-! CONTRACTS of ApplyFree$Rewriter: quantified -/
section RZ
variable {d : Nat} {z : wd_Z} {L : wd_L} {T : Nat → sm_T} {N : Nat} {tr : Nat → Nat} {σ : cp_S} {o : Nat} {fs : List Nat}
/-- the pairs of those that ask and what they meet: the steps behind the answers of the bag -/
theorem rx_quant_111 {t a e2 own l y p r1 : Nat} {pl : Nat → Nat} {S0 : List cp_St} {u1 : Nat} {K : wd_Z → wd_M → wd_L → Prop} (ht : t < N) (hk : sm_k (T t) = 9 ∨ sm_k (T t) = 10) (hop : sm_o (T t) ≤ 4) (ha : ∃ j, j < o ∧ a = 28 + 2 * j) (hy : y = 28 + 2 * o) (ho : o + 1 ≤ 300) (hf : fs.length < 3000) (hd : 4 ≤ d) (how : own ≤ 100000) :
    ∀ (n i : Nat) (M : wd_M), i + n = (cp_bits l).length → rx_Pre T N M (S0, u1 + i) (o + 1) fs → M a 0 = nI e2 → M a 1 = nI (own + 1) → M y 3 = nI p → p + (cp_bits l).length ≤ u1 → sl_at (M 22) p (cp_cl l pl) → sl_at (M 22) u1 ((cp_cl l pl).take i) →
      S0.length + 11 ≤ 32768 → u1 + ((cp_bits l).length + 1) + (cp_bits l).length + (5 + ((cp_bits l).length + 1)) + (5 + ((cp_bits l).length + 1)) ≤ 524288 →
      (∀ M', rx_R M' (S0 ++ [cp_pick e2 (cp_cl l pl ++ [nI own]), cp_uniq S0.length, cp_join 0 (S0.length + 1) r1 (cp_sp (cp_bits l).length) 0] ++ cp_mark (S0.length + 2) e2 (S0.length + 3) (cp_bits l).length (if sm_k (T t) = 9 then sm_o (T t) else 5 + sm_o (T t)) (cp_cl l pl ++ [nI own]) ++ cp_mark (S0.length + 2) (S0.length + 6) (S0.length + 7) (cp_bits l).length (10 + sm_o (T t)) (cp_cl l pl ++ [nI own]),
          u1 + ((cp_bits l).length + 1) + (cp_bits l).length + (5 + ((cp_bits l).length + 1)) + (5 + ((cp_bits l).length + 1))) o (fs ++ [own + 1]) → M' a 0 = nI (S0.length + 10) → M' a 1 = nI (own + 3) → rx_pl u1 M M' → rx_F o a M M' → K z M' L) →
      wRun (d + 1, 0, 0) mX3_quantified 111 [some (.ref 23), some (.int (nI t)), none, none, some (.ref a), none, none, some (.int (nI own)), some (.ref y), some (.int (nI (cp_bits l).length)), some (.int (nI r1)), some (.int (nI u1)), some (.int (nI i)), none, none] [] z M L (wQv K)
  | 0, i, M, hi, hP, h0, h1, h3, hp, hs, hT, hc, hu, hK => by
    have hn := cp_bits_len (l := l)
    have hN := hP.1.2.1
    obtain ⟨j, j1, j2⟩ := ha
    have hsc : rx_sc a := Or.inr ⟨j, by omega, j2⟩
    have hcl := cp_cl_len (l := l) (pl := pl)
    have ei : i = (cp_bits l).length := by omega
    subst ei
    rw [List.take_of_length_le (by omega)] at hT
    generalize hnn : (cp_bits l).length = nn at *
    refine fX3_quantified_111 ⟨fun _ => ?_, fun q => absurd (nI_le (Nat.le_refl _) (by omega)) q⟩
    refine rx_put hP.2.1.1 (by dsimp only; omega) fun M1 a1 a2 a3 a4 => rx_gO hsc ?_
    have hli : (cp_cl l pl ++ [nI own]).length = nn + 1 := by rw [List.length_append, hcl]; rfl
    have hsl : sl_at (M1 22) u1 (cp_cl l pl ++ [nI own]) := sl_app.mpr ⟨rx_pl_sl a3 hT (by dsimp only; omega), sl_one.mpr (by rw [hcl]; exact a2)⟩
    have a1 : rx_S M1 (S0, u1 + nn + 1) := a1
    have a3 : rx_pl (u1 + nn) M M1 := a3
    rw [a4 a (by omega), h0, nI_1]
    refine rx_pick (p := u1) (ls := cp_cl l pl ++ [nI own]) (l := e2) (by omega) a1 (by dsimp only; omega) (by rw [hli]) (by rw [hli]; dsimp only; omega) hsl fun M2 b1 b2 b3 => ?_
    refine rx_uniq (by omega) b1 (by simp only [List.length_append, List.length_singleton]; omega) fun M3 c1 c2 c3 => ?_
    refine rx_span (n := nn) (by omega) c1 (by dsimp only; omega) rfl fun M4 e1 e2' e3 e4 => ?_
    have lk : (S0 ++ [cp_pick e2 (cp_cl l pl ++ [nI own])]).length = S0.length + 1 := by simp
    show wRunI (d, 0, 0) mX2_join [.ref 14, .int 0, .int (nI (S0 ++ [cp_pick e2 (cp_cl l pl ++ [nI own])]).length), .int (nI r1), .int (nI (u1 + nn + 1)), .int (nI nn), .int 0] z M4 L _
    rw [lk]
    refine rx_join (p := u1 + nn + 1) (ls := cp_sp nn) (by omega) e1 (by simp only [List.length_append, List.length_singleton]; omega) (by rw [cp_sp_len]) (by rw [cp_sp_len]; exact Nat.le_refl _) e3 fun M5 f1 f2 f3 => rx_gO hsc ?_
    have F5 : ak_fr 14 22 M M5 := ak_fr_trans a4 (ak_fr_trans b3 (ak_fr_trans c3 (ak_fr_trans e4 f3)))
    have P5 : rx_pl (u1 + nn + 1) M1 M5 := fun q hq => by
      have k1 : M5 22 q = M4 22 q := f2 q (by dsimp only; omega)
      have k2 : M4 22 q = M3 22 q := e2' q hq
      have k3 : M3 22 q = M2 22 q := c2 q hq
      have k4 : M2 22 q = M1 22 q := b2 q hq
      rw [k1, k2, k3, k4]
    have f1 : rx_S M5 (S0 ++ [cp_pick e2 (cp_cl l pl ++ [nI own]), cp_uniq S0.length, cp_join 0 (S0.length + 1) r1 (cp_sp nn) 0], u1 + (nn + 1) + nn) := by
      have e0 : u1 + (nn + 1) + nn = u1 + nn + 1 + nn := by omega
      rw [e0]
      simpa [List.append_assoc] using f1
    have lS : (S0 ++ [cp_pick e2 (cp_cl l pl ++ [nI own]), cp_uniq S0.length, cp_join 0 (S0.length + 1) r1 (cp_sp nn) 0]).length = S0.length + 3 := by simp
    have R5 := rx_R_st hP.2.1 f1 F5
    have l2 : (S0 ++ [cp_pick e2 (cp_cl l pl ++ [nI own])] ++ [cp_uniq S0.length]).length = S0.length + 2 := by simp
    have e6 : M5 23 6 = nI fs.length := R5.2.2.1
    have ea : M5 a = M a := F5 a (by omega)
    generalize hM6 : am_up2 (am_up2 M5 23 6 (nI (fs.length + 1))) 27 fs.length (nI (own + 1)) = M6
    have R6 : rx_R M6 (S0 ++ [cp_pick e2 (cp_cl l pl ++ [nI own]), cp_uniq S0.length, cp_join 0 (S0.length + 1) r1 (cp_sp nn) 0], u1 + (nn + 1) + nn) (o + 1) (fs ++ [own + 1]) := by
      subst hM6
      refine ⟨rx_S_fr f1 fun c g1 g2 => by rw [ak_up_cell (by omega), ak_up_cell (by omega)], by rw [ak_up_cell (by omega), ak_up_ne (by omega)]; exact R5.2.1, by rw [ak_up_cell (by omega), ak_up_same, List.length_append]; rfl, fun i c hi => ?_⟩
      by_cases hl : i < fs.length
      · rw [List.getElem?_append_left hl] at hi
        rw [ak_up_ne (by omega), ak_up_cell (by omega)]
        exact R5.2.2.2 i c hi
      · have hlt : i < (fs ++ [own + 1]).length := (List.getElem?_eq_some_iff.mp hi).1
        rw [List.length_append] at hlt
        have hlt : i < fs.length + 1 := hlt
        have ei : i = fs.length := by omega
        rw [ei, List.getElem?_append_right (Nat.le_refl _), Nat.sub_self] at hi
        have : own + 1 = c := by simpa using hi
        rw [ei, ak_up_same, this]
    have F6 : ∀ c, (c < 14 ∨ 23 < c) → c ≠ 27 → M6 c = M c := fun c g1 g2 => by subst hM6; rw [ak_up_cell g2, ak_up_cell (by omega)]; exact F5 c (by omega)
    have P6 : rx_pl (u1 + nn + 1) M1 M6 := fun q hq => by subst hM6; rw [ak_up_cell (by omega), ak_up_cell (by omega)]; exact P5 q hq
    have hP6 : rx_Pre T N M6 _ (o + 1) (fs ++ [own + 1]) := ⟨tx_T_fr hP.1 fun c _ g => F6 c (by omega) (by omega), R6, by rw [F6 24 (by omega) (by omega)]; exact hP.2.2.1, by rw [F6 24 (by omega) (by omega)]; exact hP.2.2.2⟩
    obtain ⟨m4, m5, -⟩ := hP6.1.2.2 t ht
    -- the two marks
    have mk : ∀ t1 : Nat, t1 = (if sm_k (T t) = 9 then sm_o (T t) else 5 + sm_o (T t)) → wRun (d + 1, 0, 0) mX3_quantified 289 [some (.ref 23), some (.int (nI t)), none, none, some (.ref a), none, none, none, none, some (.int (nI nn)), none, some (.int (nI u1)), none, some (.int (nI (S0.length + 2))), none] [.int (nI t1), .int (nI nn), .int (nI u1), .int (nI (S0.length + 2)), .ref a, .ref 23] z M6 L (wQv K) := fun t1 et => by
      refine fX3_quantified_289 ?_
      refine rx_marked (T := T) (N := N) (a := a) (met := S0.length + 2) (e := e2) (w := own + 1) (n := nn) (test := t1) (p := u1) (ls := cp_cl l pl ++ [nI own]) (by omega) hP6 ⟨j, by omega, j2⟩ (by omega) (by rw [F6 a (by omega) (by omega)]; exact h0) (by rw [F6 a (by omega) (by omega)]; exact h1) hli (by dsimp only; omega) (rx_pl_sl P6 hsl (by rw [hli]; omega)) (by rw [lS]; omega) (by dsimp only; omega) fun M7 g1 g2 g3 g4 g5 => ?_
      rw [lS] at g1 g2
      dsimp only at g1 g4
      have hP7 : rx_Pre T N M7 _ (o + 1) (fs ++ [own + 1]) := rx_Pre_open hP6 g1 g5 (Or.inl (by omega))
      obtain ⟨-, m5', -⟩ := hP7.1.2.2 t ht
      rw [nI_clamp (by omega), m5', ak_n10, nI_add]
      refine ⟨vp_in_nI (by omega) (by omega), ?_⟩
      have lT : (S0 ++ [cp_pick e2 (cp_cl l pl ++ [nI own]), cp_uniq S0.length, cp_join 0 (S0.length + 1) r1 (cp_sp nn) 0] ++ cp_mark (S0.length + 2) e2 (S0.length + 3) nn t1 (cp_cl l pl ++ [nI own])).length = S0.length + 7 := by simp [cp_mark]
      refine rx_marked (T := T) (N := N) (a := a) (met := S0.length + 2) (e := S0.length + 6) (w := own + 2) (n := nn) (test := 10 + sm_o (T t)) (p := u1) (ls := cp_cl l pl ++ [nI own]) (by omega) hP7 ⟨j, by omega, j2⟩ (by omega) g2 g3 hli (by dsimp only; omega) (rx_pl_sl g4 (rx_pl_sl P6 hsl (by rw [hli]; omega)) (by rw [hli]; omega)) (by rw [lT]; omega) (by dsimp only; omega) fun M8 i1 i2 i3 i4 i5 => wQv_i (hK _ ?_ ?_ ?_ (fun q hq => ?_) ?_)
      · rw [lT] at i1
        rw [← et]
        exact rx_close (k := 1) i1
      · rw [lT] at i2
        rw [ak_up_cell (by omega)]; exact i2
      · rw [ak_up_cell (by omega)]; exact i3
      · dsimp only at i4
        rw [ak_up_cell (by omega), i4 q (by omega), g4 q (by omega), P6 q (by omega), a3 q (by omega)]
      · refine rx_F_up (fun c hc hce => ?_) (Or.inl rfl)
        rw [i5 c (by omega) hce, g5 c (by omega) hce, F6 c (by omega) (by omega)]
    show vp_in (M5 23 6) 3000 ∧ _
    rw [e6, nI_1, nI_clamp (by omega), nI_clamp (by omega), ak_up_cell (M := M5) (c := 23) (c' := a) (by omega), ea, h1, hM6, m4]
    refine ⟨vp_in_nI hf (by omega), vp_in_nI (by omega) (by omega), fun q => ?_, fun q => ?_⟩
    · have q : sm_k (T t) = 9 := by rwa [show (9 : Int32) = nI 9 from rfl, nI_eq (by omega) (by omega)] at q
      show wRun (d + 1, 0, 0) mX3_quantified 250 [some (.ref 23), some (.int (nI t)), none, none, some (.ref a), none, none, none, none, some (.int (nI nn)), none, some (.int (nI u1)), none, some (.int (nI (S0 ++ [cp_pick e2 (cp_cl l pl ++ [nI own])] ++ [cp_uniq S0.length]).length)), none] [.int 1] z M6 L (wQv K)
      rw [l2]
      refine fX3_quantified_250 ⟨fun q => absurd q (by decide), fun _ => ?_⟩
      rw [nI_clamp (by omega), m5]
      exact ⟨vp_in_nI (by omega) (by omega), mk _ (by rw [if_pos q])⟩
    · have q : ¬ sm_k (T t) = 9 := by rwa [show (9 : Int32) = nI 9 from rfl, nI_eq (by omega) (by omega)] at q
      show wRun (d + 1, 0, 0) mX3_quantified 250 [some (.ref 23), some (.int (nI t)), none, none, some (.ref a), none, none, none, none, some (.int (nI nn)), none, some (.int (nI u1)), none, some (.int (nI (S0 ++ [cp_pick e2 (cp_cl l pl ++ [nI own])] ++ [cp_uniq S0.length]).length)), none] [.int 0] z M6 L (wQv K)
      rw [l2]
      refine fX3_quantified_250 ⟨fun _ => ?_, fun q => absurd rfl q⟩
      rw [nI_clamp (by omega), m5, ak_n5, nI_add]
      exact ⟨vp_in_nI (by omega) (by omega), mk _ (by rw [if_neg q])⟩
  | n + 1, i, M, hi, hP, h0, h1, h3, hp, hs, hT, hc, hu, hK => by
    have hn := cp_bits_len (l := l)
    have hcl := cp_cl_len (l := l) (pl := pl)
    have sy : rx_sc y := Or.inr ⟨o, by omega, hy⟩
    obtain ⟨j, j1, j2⟩ := ha
    refine fX3_quantified_111 ⟨fun q => absurd q (nI_ge (by omega) (by omega)), fun _ => rx_gO sy ?_⟩
    rw [h3, nI_add, nI_clamp (by omega), sl_get hs (i := i) (by omega), nI_1]
    refine ⟨vp_in_nI (by omega) (by omega), rx_put hP.2.1.1 (by dsimp only; omega) fun M1 a1 a2 a3 a4 => ?_⟩
    have P1 := rx_Po_of hP.2.1 a1 a3 a4
    refine rx_quant_111 (e2 := e2) (pl := pl) (p := p) ht hk hop ⟨j, j1, j2⟩ hy ho hf hd how n (i + 1) M1 (by omega) (rx_Pre_of hP P1) (by rw [a4 a (by omega)]; exact h0) (by rw [a4 a (by omega)]; exact h1) (by rw [a4 y (by omega)]; exact h3) hp (rx_pl_sl a3 hs (by dsimp only; omega)) ?_ hc hu fun M2 b1 b2 b3 b4 b5 => hK M2 b1 b2 b3 (rx_pl_trans (u' := u1) (fun q hq => a3 q (by dsimp only; omega)) b4 (Nat.le_refl _)) (rx_F_trans (rx_F_of a4) b5)
    rw [sl_take (List.getElem?_eq_getElem (show i < (cp_cl l pl).length by omega)), sl_app, sl_one, List.length_take, Nat.min_eq_left (by omega)]
    exact ⟨rx_pl_sl a3 hT (by rw [List.length_take]; dsimp only; omega), a2⟩
end RZ
