/-! CONTRACTS of ApplyFree$Executor: cross, lay, unique -/
/-- tables in memory -/
def tb_T (z : wd_Z) (M : wd_M) (k c : Nat) (R : List ay_Row) : Prop := k < z.2.1 ∧ z.2.2.1 k = c ∧ M (667 + 2 * k) 0 = nI c ∧ M (667 + 2 * k) 2 = nI R.length ∧ sl_W c R ∧ R.length ≤ 24 ∧ sl_at (M (668 + 2 * k)) 0 R.flatten
theorem tb_ref {z : wd_Z} {k : Nat} (h : k < z.2.1) : wd_R z 2 k = some (667 + 2 * k) := by
  unfold wd_R
  show cond (Nat.blt k z.2.1) _ _ = _
  rw [ak_blt_t h]; rfl
theorem tb_typ {z : wd_Z} {k : Nat} (h : k < z.2.1) : wd_typ z (667 + 2 * k) = .inl 9 := by
  unfold wd_typ
  rw [ak_blt_f (a := 667 + 2 * k) (b := 28) (by omega), ak_blt_f (a := 667 + 2 * k) (b := 628) (by omega), ak_blt_f (a := 667 + 2 * k) (b := 667) (by omega), ak_blt_t (a := 667 + 2 * k) (b := 667 + 2 * z.2.1) (by omega), ak_beq_t (a := (667 + 2 * k) % 2) (b := 1) (by omega)]; rfl
theorem tb_arr {z : wd_Z} {k : Nat} (h : k < z.2.1) : wd_typ z (667 + 2 * k + 1) = .inr (0, z.2.2.1 k * 24) := by
  unfold wd_typ
  rw [ak_blt_f (a := 667 + 2 * k + 1) (b := 28) (by omega), ak_blt_f (a := 667 + 2 * k + 1) (b := 628) (by omega), ak_blt_f (a := 667 + 2 * k + 1) (b := 667) (by omega), ak_blt_t (a := 667 + 2 * k + 1) (b := 667 + 2 * z.2.1) (by omega), ak_beq_f (a := (667 + 2 * k + 1) % 2) (b := 1) (by omega), show (667 + 2 * k + 1 - 667) / 2 = k by omega]; rfl
theorem tb_cel {z : wd_Z} {k : Nat} (h : k < z.2.1) : wd_R z (667 + 2 * k) 1 = some (667 + 2 * k + 1) := by
  unfold wd_R
  rw [ak_blt_f (a := 667 + 2 * k) (b := 28) (by omega), ak_blt_f (a := 667 + 2 * k) (b := 628) (by omega), ak_blt_f (a := 667 + 2 * k) (b := 667) (by omega), ak_blt_t (a := 667 + 2 * k) (b := 667 + 2 * z.2.1) (by omega), ak_beq_t (a := (667 + 2 * k) % 2) (b := 1) (by omega)]; rfl
theorem sm_once_app {α : Type} [DecidableEq α] (a b : List α) : ∃ c, sm_once (a ++ b) = sm_once a ++ c := by
  refine sm_snoc (P := fun b => ∃ c, sm_once (a ++ b) = sm_once a ++ c) ⟨[], by simp⟩ (fun b r ih => ?_) b
  obtain ⟨c, hc⟩ := ih
  rw [← List.append_assoc, sm_once_snoc, hc]
  split
  · exact ⟨c, rfl⟩
  · exact ⟨c ++ [r], by rw [List.append_assoc]⟩
theorem ex_key_sp {n : Nat} {r : ay_Row} (h : n ≤ r.length) (hn : n < 2 ^ 31) : ex_key (cp_sp n) r = r.take n := by
  unfold ex_key cp_sp
  rw [List.map_map]
  apply List.ext_getElem?
  intro i
  by_cases hi : i < n
  · rw [List.getElem?_map, List.getElem?_range hi, List.getElem?_take_of_lt hi]
    show some (r.getD (nI i).toNatClampNeg 0) = _
    rw [nI_clamp (by omega), List.getD_eq_getElem?_getD, List.getElem?_eq_getElem (by omega)]; rfl
  · rw [List.getElem?_eq_none (by simp; omega), List.getElem?_eq_none (by rw [List.length_take]; omega)]
theorem ix_key_of {M : wd_M} {x b f w lb : Nat} {ls : List Int32} {r : ay_Row} (hb : ix_ar b lb) (hl : sl_at (M b) f ls) (hf : f + ls.length ≤ lb) (hcol : ∀ c, c ∈ ls → ∃ j, c = nI j ∧ j < w) (hr : sl_at (M 638) x r) (hw : r.length = w) (hx : x + w ≤ 600000) : ix_key M 638 x b f (ex_key ls r) := by
  refine ⟨600000, lb, Or.inl ⟨rfl, rfl⟩, hb, fun c v hv => ?_⟩
  unfold ex_key at hv
  rw [List.getElem?_map] at hv
  cases e : ls[c]? with
  | none => rw [e] at hv; cases hv
  | some u =>
    rw [e] at hv
    have hc := (List.getElem?_eq_some_iff.mp e).1
    obtain ⟨j, j1, j2⟩ := hcol u (List.mem_of_getElem? e)
    refine ⟨j, by rw [hl c u e, j1], by omega, by omega, ?_⟩
    rw [sl_getD hr (by omega)]
    have hv : some (r.getD u.toNatClampNeg 0) = some v := hv
    rw [j1, nI_clamp (by omega)] at hv
    exact Option.some.inj hv
def xe_all (M : wd_M) : Prop := sl_at (M 644) 0 (cp_sp 256)
theorem xe_all_n {M : wd_M} (h : xe_all M) {n : Nat} (hn : n ≤ 256) : sl_at (M 644) 0 (cp_sp n) := by
  intro i v hi
  have hl := (List.getElem?_eq_some_iff.mp hi).1
  rw [cp_sp_len] at hl
  refine h i v ?_
  unfold cp_sp at *
  rw [List.getElem?_map, List.getElem?_range hl] at hi
  rw [List.getElem?_map, List.getElem?_range (by omega)]
  exact hi
theorem cp_sp_mem {n w : Nat} (h : n ≤ w) : ∀ c, c ∈ cp_sp n → ∃ j, c = nI j ∧ j < w := fun c hc => by
  unfold cp_sp at hc
  obtain ⟨j, j1, j2⟩ := List.mem_map.mp hc
  rw [List.mem_range] at j1
  exact ⟨j, j2.symm, by omega⟩
/-- the index stays while rows are written behind -/
theorem ix_J_mv {z : wd_Z} {M M' : wd_M} {p w b f n : Nat} {kf : ay_Row → List Int32} {R : List ay_Row} {k : Nat} (h : ix_J z M p w b f n kf R k) (e : ∀ c, 631 ≤ c → c ≤ 637 → M' c = M c) (hk : ∀ i r, R[i]? = some r → ix_key M' 638 (p + i * w) b f (kf r)) : ix_J z M' p w b f n kf R k := by
  obtain ⟨⟨o1, o2, o3, o4, o5, o6⟩, hI, hkey, hfl, hch⟩ := h
  have e1 := e 631 (by omega) (by omega)
  refine ⟨⟨o1, o2, by rw [e1]; exact o3, by rw [e1]; exact o4, by rw [e1]; exact o5, by rw [e1]; exact o6⟩, ?_, fun i r hi => ⟨hk i r hi, (hkey i r hi).2⟩, ?_, ?_⟩
  · unfold ix_I
    rw [e1, e 632 (by omega) (by omega), e 633 (by omega) (by omega)]
    exact hI
  · rw [e 634 (by omega) (by omega), e 635 (by omega) (by omega), e 636 (by omega) (by omega)]
    exact hfl
  · rw [e 637 (by omega) (by omega)]
    exact hch
section XE
variable {d : Nat} {z : wd_Z} {M0 : wd_M} {L : wd_L} {s q : Nat}
theorem xe_lay {M : wd_M} {k c ws : Nat} {R : List ay_Row} {K : wd_Z → wd_M → wd_L → Prop} (hd : 1 ≤ d) (hs : s < 32768) (hO : xe_O M0 M s q ws [] 0) (hT : tb_T z M k c R) (hc : c ≤ 4) (hr : q + R.flatten.length ≤ 600000) (hK : ∀ M', xe_O M0 M' s q c R.flatten R.length → K z M' L) : wRunV (d, 0, 0) mX5_lay [.ref 628, .int (nI s), .ref (667 + 2 * k)] z M L K := by
  obtain ⟨d, rfl, hd'⟩ := ak_deep hd
  obtain ⟨t1, t2, t3, t4, t5, t6, t7⟩ := hT
  obtain ⟨f, h1, h2, h3, h4⟩ := hO
  have gO : ∀ {P : Prop}, P → am_gd (am_isO (wd_typ z (667 + 2 * k)) 9) P := fun p => am_gd_i (by rw [tb_typ t1]; rfl) p
  have hfl := sl_flen t5
  have hcR : R.length * c ≤ 24 * 4 := Nat.mul_le_mul t6 hc
  refine fX5_lay_e (gO ?_)
  rw [nI_clamp (show s < 2 ^ 31 by omega), t3]
  generalize hM1 : am_up2 (am_up2 M 641 s (nI c)) 640 s (am_up2 M 641 s (nI c) (667 + 2 * k) 2) = M1
  have F1 : ∀ x, x ≠ 640 → x ≠ 641 → M1 x = M x := fun x h1 h2 => by rw [← hM1, ak_up_cell h1, ak_up_cell h2]
  have e2 : M1 (667 + 2 * k) 2 = nI R.length := by rw [F1 _ (by omega) (by omega)]; exact t4
  have e0 : M1 (667 + 2 * k) 0 = nI c := by rw [F1 _ (by omega) (by omega)]; exact t3
  have e5 : M1 628 5 = nI q := by rw [F1 _ (by omega) (by omega)]; exact h1
  refine ⟨vp_in_nI hs (by omega), gO ⟨vp_in_nI hs (by omega), gO (am_bR_i (tb_cel t1) (gO (gO (am_gd_i (by rw [tb_arr t1]; rfl) ?_))))⟩⟩
  rw [e2, e0, e5, pk_mul, nI_clamp (show R.length * c < 2 ^ 31 by omega), nI_clamp (show q < 2 ^ 31 by omega), ak_cp_cell (c := 628) (by omega), ak_cp_cell (c := 667 + 2 * k) (by omega), e5, e2, e0, pk_mul, nI_add, tb_arr t1, t2, sb_cl0]
  have hRc : R.length * c ≤ c * 24 := by rw [Nat.mul_comm]; exact Nat.mul_le_mul_left c t6
  refine ⟨by decide, nI_pos (by omega), nI_pos (by omega), by show 0 + R.length * c ≤ c * 24; omega, by omega, gO (gO (wQv_i (hK _ ⟨xe_fr_trans f ⟨fun x hx => ?_, fun i hi => ?_, ?_, fun t ht => ?_, fun t ht => ?_, ?_, ?_, ?_, fun i hi => ?_⟩, ?_, ?_, ?_, ?_⟩)))⟩
  · rw [ak_up_cell (by omega), ak_cp_cell (by omega), F1 x (by omega) (by omega)]
  · rw [ak_up_ne hi, ak_cp_cell (by omega), F1 628 (by omega) (by omega)]
  · rw [ak_up_cell (by omega), ak_cp_cell (by omega), F1 639 (by omega) (by omega)]
  · rw [ak_up_cell (by omega), ak_cp_cell (by omega), ← hM1, ak_up_ne ht, ak_up_cell (by omega)]
  · rw [ak_up_cell (by omega), ak_cp_cell (by omega), ← hM1, ak_up_cell (by omega), ak_up_ne ht]
  · rw [ak_up_cell (by omega), ak_cp_cell (by omega), F1 642 (by omega) (by omega)]
  · rw [ak_up_cell (by omega), ak_cp_cell (by omega), F1 643 (by omega) (by omega)]
  · rw [ak_up_cell (by omega), ak_cp_cell (by omega), F1 644 (by omega) (by omega)]
  · rw [ak_up_cell (by omega), ak_cp_own, pk_cpy_out (by omega), F1 638 (by omega) (by omega)]
  · rw [ak_up_same, hfl]
  · rw [ak_up_cell (by omega), ak_cp_cell (by omega), ← hM1, ak_up_same, ak_up_cell (by omega)]; exact t4
  · rw [ak_up_cell (by omega), ak_cp_cell (by omega), ← hM1, ak_up_cell (by omega), ak_up_same]
  · rw [ak_up_cell (by omega), ak_cp_own]
    refine sl_cpy_in ?_ hfl
    rw [F1 _ (by omega) (by omega), show 667 + 2 * k + 1 = 668 + 2 * k by omega]; exact t7
/-- crosses -/
theorem xe_cross_36 {l r p1 p2 w1 w2 i : Nat} {A B : List ay_Row} {x : ay_Row} {out : List Int32} {k : Nat} {K : wd_Z → wd_M → wd_L → Prop} (hd : 1 ≤ d) (hs : s < 32768) (hA : xe_B M0 l p1 w1 A) (hB : xe_B M0 r p2 w2 B) (hls : l ≠ s) (hrs : r ≠ s) (hp1 : p1 + A.length * w1 ≤ q) (hp2 : p2 + B.length * w2 ≤ q) (hq : q ≤ 600000) (hBl : B.length < 100000) (hx : A[i]? = some x)
    (hr : q + (out ++ (B.map (fun y => x ++ y)).flatten).length ≤ 600000)
    (hK : ∀ M', xe_O M0 M' s q (w1 + w2) (out ++ (B.map (fun y => x ++ y)).flatten) (k + B.length) → wRun (d + 1, 0, 0) mX5_cross 22 [some (.ref 628), some (.int (nI s)), some (.int (nI l)), some (.int (nI r)), some (.int (nI (i + 1))), none] [] z M' L (wQv K)) :
    ∀ (n j : Nat) (M : wd_M), j + n = B.length → xe_O M0 M s q (w1 + w2) (out ++ ((B.take j).map (fun y => x ++ y)).flatten) (k + j) → wRun (d + 1, 0, 0) mX5_cross 36 [some (.ref 628), some (.int (nI s)), some (.int (nI l)), some (.int (nI r)), some (.int (nI i)), some (.int (nI j))] [] z M L (wQv K)
  | 0, j, M, hj, hO => by
    have ej : j = B.length := by omega
    subst ej
    have hB' := xe_B_fr hB hrs hp2 hO.1
    rw [List.take_length] at hO
    refine fX5_cross_36 ?_
    have hl := hB'.1
    rw [nI_clamp (by omega), hB'.2.2.1, nI_1, nI_1]
    exact ⟨vp_in_nI hl (by omega), fun _ => hK M hO, fun q => absurd (nI_le (Nat.le_refl _) (by omega)) q⟩
  | n + 1, j, M, hj, hO => by
    have hB' := xe_B_fr hB hrs hp2 hO.1
    have hA' := xe_B_fr hA hls hp1 hO.1
    obtain ⟨y, hyj⟩ := sl_idx (show j < B.length by omega)
    have hxw := sl_W_at hA.2.2.2.2.1 hx
    have hyw := sl_W_at hB.2.2.2.2.1 hyj
    have hl := hB'.1
    have rm := xe_room (f := fun y => [x ++ y]) hyj
    rw [xe_map (fun y => x ++ y), xe_map (fun y => x ++ y)] at rm
    have er : ([x ++ y] : List ay_Row).flatten = x ++ y := by simp
    rw [er, List.length_append, hxw, hyw] at rm
    rw [List.length_append] at hr
    have et : (B.take (j + 1)).map (fun y => x ++ y) = (B.take j).map (fun y => x ++ y) ++ [x ++ y] := by rw [sl_take hyj, List.map_append]; rfl
    refine fX5_cross_36 ?_
    rw [nI_clamp (by omega), hB'.2.2.1, nI_1, nI_1]
    refine ⟨vp_in_nI hl (by omega), fun q => absurd q (nI_ge (by omega) (by omega)), fun _ => ?_⟩
    refine xe_copy (f := 0) hd hO hA' (by omega) hx (by omega) (by rw [List.length_append]; omega) fun M1 O1 F1 => ?_
    rw [List.drop_zero] at O1
    refine xe_copy (f := 0) hd O1 (xe_B_fr hB hrs hp2 O1.1) (by omega) hyj (by omega) (by simp only [List.length_append]; omega) fun M2 O2 F2 => ?_
    rw [List.drop_zero] at O2
    rw [nI_clamp (by omega), O2.2.2.1, nI_1]
    refine ⟨vp_in_nI hs (by omega), vp_in_nI hs (by omega), ?_⟩
    refine xe_cross_36 hd hs hA hB hls hrs hp1 hp2 hq hBl hx (by rw [List.length_append]; exact hr) hK n (j + 1) _ (by omega) ?_
    rw [et, List.flatten_append, er, ← Nat.add_assoc]
    have := xe_O_inc O2
    simpa [List.append_assoc] using this
theorem xe_cross_22 {l r p1 p2 w1 w2 : Nat} {A B : List ay_Row} {K : wd_Z → wd_M → wd_L → Prop} (hd : 1 ≤ d) (hs : s < 32768) (hA : xe_B M0 l p1 w1 A) (hB : xe_B M0 r p2 w2 B) (hls : l ≠ s) (hrs : r ≠ s) (hp1 : p1 + A.length * w1 ≤ q) (hp2 : p2 + B.length * w2 ≤ q) (hq : q ≤ 600000) (hAl : A.length < 100000) (hBl : B.length < 100000)
    (hr : q + (A.flatMap (fun x => B.map (fun y => x ++ y))).flatten.length ≤ 600000)
    (hK : ∀ M', xe_O M0 M' s q (w1 + w2) (A.flatMap (fun x => B.map (fun y => x ++ y))).flatten (A.flatMap (fun x => B.map (fun y => x ++ y))).length → K z M' L) :
    ∀ (n i : Nat) (M : wd_M), i + n = A.length → xe_O M0 M s q (w1 + w2) ((A.take i).flatMap (fun x => B.map (fun y => x ++ y))).flatten ((A.take i).flatMap (fun x => B.map (fun y => x ++ y))).length → wRun (d + 1, 0, 0) mX5_cross 22 [some (.ref 628), some (.int (nI s)), some (.int (nI l)), some (.int (nI r)), some (.int (nI i)), none] [] z M L (wQv K)
  | 0, i, M, hi, hO => by
    have ei : i = A.length := by omega
    subst ei
    have hA' := xe_B_fr hA hls hp1 hO.1
    rw [List.take_length] at hO
    refine fX5_cross_22 ?_
    have hl := hA'.1
    rw [nI_clamp (by omega), hA'.2.2.1]
    exact ⟨vp_in_nI hl (by omega), fun _ => wQv_i (hK M hO), fun q => absurd (nI_le (Nat.le_refl _) (by omega)) q⟩
  | n + 1, i, M, hi, hO => by
    have hA' := xe_B_fr hA hls hp1 hO.1
    obtain ⟨x, hxi⟩ := sl_idx (show i < A.length by omega)
    have hl := hA'.1
    have rm := xe_room (f := fun x => B.map (fun y => x ++ y)) hxi
    have et := xe_take (f := fun x => B.map (fun y => x ++ y)) hxi
    refine fX5_cross_22 ?_
    rw [nI_clamp (by omega), hA'.2.2.1]
    refine ⟨vp_in_nI hl (by omega), fun q => absurd q (nI_ge (by omega) (by omega)), fun _ => ?_⟩
    rw [ak_n0]
    refine xe_cross_36 (x := x) (out := ((A.take i).flatMap (fun x => B.map (fun y => x ++ y))).flatten) (k := ((A.take i).flatMap (fun x => B.map (fun y => x ++ y))).length) hd hs hA hB hls hrs hp1 hp2 hq hBl hxi (by rw [List.length_append]; omega) (fun M1 O1 => ?_) B.length 0 M (by omega) (by simpa using hO)
    refine xe_cross_22 hd hs hA hB hls hrs hp1 hp2 hq hAl hBl hr hK n (i + 1) M1 (by omega) ?_
    rw [et, List.flatten_append, List.length_append, List.length_map]
    exact O1
theorem xe_cross {M : wd_M} {l r p1 p2 w1 w2 ws : Nat} {A B : List ay_Row} {K : wd_Z → wd_M → wd_L → Prop} (hd : 2 ≤ d) (hs : s < 32768) (hO : xe_O M0 M s q ws [] 0) (hA : xe_B M0 l p1 w1 A) (hB : xe_B M0 r p2 w2 B) (hls : l ≠ s) (hrs : r ≠ s) (hp1 : p1 + A.length * w1 ≤ q) (hp2 : p2 + B.length * w2 ≤ q) (hq : q ≤ 600000) (hAl : A.length < 100000) (hBl : B.length < 100000)
    (hr : q + (A.flatMap (fun x => B.map (fun y => x ++ y))).flatten.length ≤ 600000)
    (hK : ∀ M', xe_O M0 M' s q (w1 + w2) (A.flatMap (fun x => B.map (fun y => x ++ y))).flatten (A.flatMap (fun x => B.map (fun y => x ++ y))).length → K z M' L) : wRunV (d, 0, 0) mX5_cross [.ref 628, .int (nI s), .int (nI l), .int (nI r)] z M L K := by
  obtain ⟨d, rfl, hd'⟩ := ak_deep hd
  have hA' := xe_B_fr hA hls hp1 hO.1
  have hB' := xe_B_fr hB hrs hp2 hO.1
  have hl := hA'.1
  have hrl := hB'.1
  refine fX5_cross_e ?_
  rw [nI_clamp (show l < 2 ^ 31 by omega), nI_clamp (show r < 2 ^ 31 by omega), nI_clamp (show s < 2 ^ 31 by omega), hA'.2.2.2.1, hB'.2.2.2.1, nI_add, ak_n0]
  refine ⟨vp_in_nI hl (by omega), vp_in_nI hrl (by omega), vp_in_nI hs (by omega), ?_⟩
  exact xe_cross_22 (d := d) hd' hs hA hB hls hrs hp1 hp2 hq hAl hBl hr hK A.length 0 _ (by omega) (by simpa using xe_wd (ws' := w1 + w2) hO)
end XE
