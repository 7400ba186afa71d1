/-! CONTRACTS of ApplyFree$Executor: rows in the room, copies, simple steps -/
/-- the rows R, of width w, of step t lie from p on -/
def xe_B (M : wd_M) (t p w : Nat) (R : List ay_Row) : Prop := t < 32768 ∧ M 639 t = nI p ∧ M 640 t = nI R.length ∧ M 641 t = nI w ∧ sl_W w R ∧ sl_at (M 638) p R.flatten
/-- what stays while step s makes its rows from q on -/
def xe_fr (s q : Nat) (M M' : wd_M) : Prop := (∀ c, c < 628 ∨ 648 < c → M' c = M c) ∧ (∀ i, i ≠ 5 → M' 628 i = M 628 i) ∧ M' 639 = M 639 ∧ (∀ t, t ≠ s → M' 640 t = M 640 t) ∧ (∀ t, t ≠ s → M' 641 t = M 641 t) ∧ M' 642 = M 642 ∧ M' 643 = M 643 ∧ M' 644 = M 644 ∧ ∀ i, i < q → M' 638 i = M 638 i
theorem xe_fr_refl {s q : Nat} {M : wd_M} : xe_fr s q M M := ⟨fun _ _ => rfl, fun _ _ => rfl, rfl, fun _ _ => rfl, fun _ _ => rfl, rfl, rfl, rfl, fun _ _ => rfl⟩
theorem xe_fr_trans {s q : Nat} {M M' M'' : wd_M} (h : xe_fr s q M M') (h' : xe_fr s q M' M'') : xe_fr s q M M'' := by
  obtain ⟨a1, a2, a3, a4, a5, a6, a7, a8, a9⟩ := h
  obtain ⟨b1, b2, b3, b4, b5, b6, b7, b8, b9⟩ := h'
  exact ⟨fun c hc => (b1 c hc).trans (a1 c hc), fun i hi => (b2 i hi).trans (a2 i hi), b3.trans a3, fun t ht => (b4 t ht).trans (a4 t ht), fun t ht => (b5 t ht).trans (a5 t ht), b6.trans a6, b7.trans a7, b8.trans a8, fun i hi => (b9 i hi).trans (a9 i hi)⟩
/-- since M0 step s, of width ws, has got the numbers out and k rows -/
def xe_O (M0 M : wd_M) (s q ws : Nat) (out : List Int32) (k : Nat) : Prop := xe_fr s q M0 M ∧ M 628 5 = nI (q + out.length) ∧ M 640 s = nI k ∧ M 641 s = nI ws ∧ sl_at (M 638) q out
theorem xe_B_fr {M M' : wd_M} {t p w s q : Nat} {R : List ay_Row} (h : xe_B M t p w R) (hs : t ≠ s) (hq : p + R.length * w ≤ q) (f : xe_fr s q M M') : xe_B M' t p w R := by
  obtain ⟨h1, h2, h3, h4, h5, h6⟩ := h
  obtain ⟨a1, a2, a3, a4, a5, a6, a7, a8, a9⟩ := f
  refine ⟨h1, by rw [a3]; exact h2, by rw [a4 t hs]; exact h3, by rw [a5 t hs]; exact h4, h5, sl_congr h6 fun i hi => a9 _ ?_⟩
  rw [sl_flen h5] at hi
  omega
/-- cells that have no part in rows: scratch of index, reckoner, order -/
theorem xe_O_sc {M0 M M' : wd_M} {s q ws : Nat} {out : List Int32} {k : Nat} (h : xe_O M0 M s q ws out k) (e : ∀ c, (c < 629 ∨ 637 < c) → (c < 645 ∨ 648 < c) → M' c = M c) : xe_O M0 M' s q ws out k := by
  obtain ⟨f, h1, h2, h3, h4⟩ := h
  refine ⟨xe_fr_trans f ⟨fun c hc => e c (by omega) (by omega), fun i _ => by rw [e 628 (by omega) (by omega)], e 639 (by omega) (by omega), fun t _ => by rw [e 640 (by omega) (by omega)], fun t _ => by rw [e 641 (by omega) (by omega)], e 642 (by omega) (by omega), e 643 (by omega) (by omega), e 644 (by omega) (by omega), fun i _ => by rw [e 638 (by omega) (by omega)]⟩, ?_, ?_, ?_, ?_⟩
  · rw [e 628 (by omega) (by omega)]; exact h1
  · rw [e 640 (by omega) (by omega)]; exact h2
  · rw [e 641 (by omega) (by omega)]; exact h3
  · rw [e 638 (by omega) (by omega)]; exact h4
theorem xe_O_inc {M0 M : wd_M} {s q ws : Nat} {out : List Int32} {k : Nat} (h : xe_O M0 M s q ws out k) : xe_O M0 (am_up2 M 640 s (nI (k + 1))) s q ws out (k + 1) := by
  obtain ⟨f, h1, h2, h3, h4⟩ := h
  refine ⟨xe_fr_trans f ⟨fun c hc => ak_up_cell (by omega), fun i _ => by rw [ak_up_cell (by omega)], ak_up_cell (by omega), fun t ht => ak_up_ne ht, fun t _ => by rw [ak_up_cell (by omega)], ak_up_cell (by omega), ak_up_cell (by omega), ak_up_cell (by omega), fun i _ => by rw [ak_up_cell (by omega)]⟩, by rw [ak_up_cell (by omega)]; exact h1, ak_up_same, by rw [ak_up_cell (by omega)]; exact h3, by rw [ak_up_cell (by omega)]; exact h4⟩
theorem xe_room {R : List ay_Row} {f : ay_Row → List ay_Row} {k : Nat} {r : ay_Row} (h : R[k]? = some r) : ((R.take k).flatMap f).flatten.length + (f r).flatten.length ≤ (R.flatMap f).flatten.length := by
  have e : R = R.take k ++ (r :: R.drop (k + 1)) := by
    have hk := (List.getElem?_eq_some_iff.mp h).1
    have : r = R[k] := by rw [List.getElem?_eq_getElem hk] at h; exact (Option.some.inj h).symm
    rw [this, ← List.drop_eq_getElem_cons hk, List.take_append_drop]
  conv => rhs; rw [e]
  rw [List.flatMap_append, List.flatMap_cons, List.flatten_append, List.flatten_append, List.length_append, List.length_append]
  omega
theorem xe_room1 {R : List ay_Row} {k : Nat} {r : ay_Row} (h : R[k]? = some r) : (R.take k).flatten.length + r.length ≤ R.flatten.length := by
  have e : R = R.take k ++ (r :: R.drop (k + 1)) := by
    have hk := (List.getElem?_eq_some_iff.mp h).1
    have : r = R[k] := by rw [List.getElem?_eq_getElem hk] at h; exact (Option.some.inj h).symm
    rw [this, ← List.drop_eq_getElem_cons hk, List.take_append_drop]
  conv => rhs; rw [e]
  rw [List.flatten_append, List.flatten_cons, List.length_append, List.length_append]
  omega
theorem xe_take {R : List ay_Row} {f : ay_Row → List ay_Row} {k : Nat} {r : ay_Row} (h : R[k]? = some r) : (R.take (k + 1)).flatMap f = (R.take k).flatMap f ++ f r := by
  rw [sl_take h, List.flatMap_append]; simp
theorem xe_at_lt {R : List ay_Row} {w i : Nat} {r : ay_Row} (h : R[i]? = some r) : i * w + w ≤ R.length * w := by
  have hk := (List.getElem?_eq_some_iff.mp h).1
  have : (i + 1) * w ≤ R.length * w := Nat.mul_le_mul_right w hk
  rw [Nat.succ_mul] at this
  exact this
section XE
variable {d : Nat} {z : wd_Z} {M0 M : wd_M} {L : wd_L} {s q ws : Nat} {out : List Int32} {k : Nat}
theorem xe_at {l p w i : Nat} {R : List ay_Row} {K : Int32 → wd_Z → wd_M → wd_L → Prop} (hB : xe_B M l p w R) (hK : K (nI (p + i * w)) z M L) : wRunI (d, 0, 0) mX5_at [.ref 628, .int (nI l), .int (nI i)] z M L K := by
  obtain ⟨h1, h2, h3, h4, -⟩ := hB
  refine fX5_at_e ?_
  rw [nI_clamp (by omega), h2, h4, pk_mul, nI_add]
  exact ⟨vp_in_nI h1 (by omega), vp_in_nI h1 (by omega), wQi_i hK⟩
theorem xe_put {v : Int32} {K : wd_Z → wd_M → wd_L → Prop} (hO : xe_O M0 M s q ws out k) (hr : q + out.length < 600000) (hK : ∀ M', xe_O M0 M' s q ws (out ++ [v]) k → (∀ c, c ≠ 628 → c ≠ 638 → M' c = M c) → K z M' L) : wRunV (d, 0, 0) mX5_put [.ref 628, .int v] z M L K := by
  obtain ⟨f, h1, h2, h3, h4⟩ := hO
  refine fX5_put_e ?_
  rw [h1, nI_1, nI_clamp (by omega)]
  refine ⟨vp_in_nI hr (by omega), wQv_i (hK _ ⟨xe_fr_trans f ⟨fun c hc => ?_, fun i hi => ?_, ?_, fun t _ => ?_, fun t _ => ?_, ?_, ?_, ?_, fun i hi => ?_⟩, ?_, ?_, ?_, ?_⟩ fun c c1 c2 => ?_)⟩
  · rw [ak_up_cell (by omega), ak_up_cell (by omega)]
  · rw [ak_up_cell (by omega), ak_up_ne hi]
  · rw [ak_up_cell (by omega), ak_up_cell (by omega)]
  · rw [ak_up_cell (by omega), ak_up_cell (by omega)]
  · rw [ak_up_cell (by omega), ak_up_cell (by omega)]
  · rw [ak_up_cell (by omega), ak_up_cell (by omega)]
  · rw [ak_up_cell (by omega), ak_up_cell (by omega)]
  · rw [ak_up_cell (by omega), ak_up_cell (by omega)]
  · rw [ak_up_ne (by omega), ak_up_cell (by omega)]
  · rw [ak_up_cell (by omega), ak_up_same, List.length_append]; rfl
  · rw [ak_up_cell (by omega), ak_up_cell (by omega)]; exact h2
  · rw [ak_up_cell (by omega), ak_up_cell (by omega)]; exact h3
  · rw [sl_app, sl_one, ak_up_same, ak_up_own, ak_up_cell (by omega)]
    exact ⟨sl_upd h4 (by omega), rfl⟩
  · rw [ak_up_cell c2, ak_up_cell c1]
theorem xe_copy {l p w i f : Nat} {R : List ay_Row} {r : ay_Row} {K : wd_Z → wd_M → wd_L → Prop} (hd : 1 ≤ d) (hO : xe_O M0 M s q ws out k) (hB : xe_B M l p w R) (hp : p + R.length * w ≤ 600000) (hi : R[i]? = some r) (hf : f ≤ w) (hr : q + out.length + (w - f) ≤ 600000)
    (hK : ∀ M', xe_O M0 M' s q ws (out ++ r.drop f) k → (∀ c, c ≠ 628 → c ≠ 638 → M' c = M c) → K z M' L) : wRunV (d, 0, 0) mX5_copy [.ref 628, .int (nI l), .int (nI i), .int (nI f)] z M L K := by
  obtain ⟨d, rfl, hd'⟩ := ak_deep hd
  have hil := (List.getElem?_eq_some_iff.mp hi).1
  have hat := xe_at_lt (w := w) hi
  have hrw := sl_W_at hB.2.2.2.2.1 hi
  have hrs := sl_fget hB.2.2.2.2.2 hB.2.2.2.2.1 hi
  refine fX5_copy_e ⟨vp_in_nI hB.1 (by omega), xe_at hB ?_⟩
  have hl := hB.1
  obtain ⟨fr, h1, h2, h3, h4⟩ := hO
  rw [nI_clamp (show l < 2 ^ 31 by omega), hB.2.2.2.1, h1, nI_add, pk_sub hf, nI_clamp (by omega), nI_clamp (by omega), nI_clamp (by omega), ak_cp_cell (by omega), h1, nI_add]
  generalize hM' : am_up2 (am_copy M 638 638 (p + i * w + f) (q + out.length) (w - f)) 628 5 (nI (q + out.length + (w - f))) = M'
  have F : ∀ c, c ≠ 628 → c ≠ 638 → M' c = M c := fun c c1 c2 => by rw [← hM', ak_up_cell c1, ak_cp_cell c2]
  have F638 : M' 638 = va_cpy (M 638) (M 638) (p + i * w + f) (q + out.length) (w - f) := by rw [← hM', ak_up_cell (by omega), ak_cp_own]
  refine ⟨nI_pos (by omega), nI_pos (by omega), nI_pos (by omega), by omega, by omega, wQv_i (hK M' ⟨xe_fr_trans fr ⟨fun c hc => F c (by omega) (by omega), fun i hi => ?_, F 639 (by omega) (by omega), fun t _ => by rw [F 640 (by omega) (by omega)], fun t _ => by rw [F 641 (by omega) (by omega)], F 642 (by omega) (by omega), F 643 (by omega) (by omega), F 644 (by omega) (by omega), fun i hi => ?_⟩, ?_, by rw [F 640 (by omega) (by omega)]; exact h2, by rw [F 641 (by omega) (by omega)]; exact h3, ?_⟩ F)⟩
  · rw [← hM', ak_up_ne hi, ak_cp_cell (by omega)]
  · rw [F638, pk_cpy_out (by omega)]
  · rw [← hM', ak_up_same, List.length_append, List.length_drop, hrw]
    congr 1; omega
  · rw [F638, sl_app]
    refine ⟨sl_cpy_out h4 (by omega), sl_cpy_in ?_ (by rw [List.length_drop, hrw])⟩
    have : sl_at (M 638) (p + i * w) (r.take f ++ r.drop f) := by rw [List.take_append_drop]; exact hrs
    rw [sl_app, List.length_take, hrw, Nat.min_eq_left hf] at this
    exact this.2
/-- the program of a step for a row -/
def xe_pr (M : wd_M) (s fr : Nat) (pr : List Int32) : Prop := M 18 s = nI fr ∧ M 19 s = nI pr.length ∧ sl_at (M 22) fr pr ∧ fr + pr.length ≤ 524288
theorem xe_pr_fr {M M' : wd_M} {s fr : Nat} {pr : List Int32} (h : xe_pr M s fr pr) (e : ∀ c, c < 628 → M' c = M c) : xe_pr M' s fr pr := by
  unfold xe_pr at *
  rw [e 18 (by omega), e 19 (by omega), e 22 (by omega)]; exact h
theorem xe_reckon {l p w i fr : Nat} {R : List ay_Row} {r : ay_Row} {pr : List Int32} {v : Int32} {K : Int32 → wd_Z → wd_M → wd_L → Prop} (hd : 4 ≤ d) (hs : s < 32768) (hB : xe_B M l p w R) (hp : p + R.length * w ≤ 600000) (hi : R[i]? = some r) (hP : xe_pr M s fr pr) (hg : rk_go r pr [] [v]) (hK : ∀ M', (∀ c, c ≠ 630 → M' c = M c) → K v z M' L) : wRunI (d, 0, 0) mX5_reckon [.ref 628, .int (nI s), .int (nI l), .int (nI i)] z M L K := by
  obtain ⟨d, rfl, hd'⟩ := ak_deep hd
  have hat := xe_at_lt (w := w) hi
  have hrw := sl_W_at hB.2.2.2.2.1 hi
  obtain ⟨p1, p2, p3, p4⟩ := hP
  refine fX5_reckon_e ⟨vp_in_nI hs (by omega), vp_in_nI hs (by omega), xe_at hB ?_⟩
  rw [nI_clamp (by omega), p1, p2]
  exact rk_runC hd' p3 p4 (sl_fget hB.2.2.2.2.2 hB.2.2.2.2.1 hi) (by omega) hg fun M' e => wQi_i (hK M' e)
/-- all rows of a step behind -/
theorem xe_copyAll_2 {l p : Nat} {R : List ay_Row} {O : List ay_Row} {K : wd_Z → wd_M → wd_L → Prop} (hd : 1 ≤ d) (hs : s < 32768) (hB : xe_B M0 l p ws R) (hls : l ≠ s) (hp : p + R.length * ws ≤ q) (hq : q ≤ 600000) (hr : q + (O ++ R).flatten.length ≤ 600000) (hRl : R.length < 100000)
    (hK : ∀ M', xe_O M0 M' s q ws (O ++ R).flatten (O ++ R).length → K z M' L) : ∀ (n i : Nat) (M : wd_M), i + n = R.length → xe_O M0 M s q ws (O ++ R.take i).flatten (O ++ R.take i).length → wRun (d + 1, 0, 0) mX5_copyAll 2 [some (.ref 628), some (.int (nI s)), some (.int (nI l)), some (.int (nI i))] [] z M L (wQv K)
  | 0, i, M, hi, hO => by
    have ei : i = R.length := by omega
    subst ei
    have hB' := xe_B_fr hB hls hp hO.1
    rw [List.take_length] at hO
    refine fX5_copyAll_2 ?_
    have hl := hB'.1
    rw [nI_clamp (by omega), hB'.2.2.1]
    exact ⟨vp_in_nI hl (by omega), fun _ => wQv_i (hK M hO), fun q => absurd (nI_le (Nat.le_refl _) (by omega)) q⟩
  | n + 1, i, M, hi, hO => by
    have hB' := xe_B_fr hB hls hp hO.1
    obtain ⟨r, hri⟩ := sl_idx (show i < R.length by omega)
    have hrw := sl_W_at hB.2.2.2.2.1 hri
    have hat := xe_at_lt (w := ws) hri
    have hl := hB'.1
    refine fX5_copyAll_2 ?_
    rw [nI_clamp (by omega), hB'.2.2.1, nI_1]
    refine ⟨vp_in_nI hl (by omega), fun q => absurd q (nI_ge (by omega) (by omega)), fun _ => ?_⟩
    have rm : (O ++ R.take i).flatten.length + ws ≤ (O ++ R).flatten.length := by
      have := xe_room1 hri
      rw [hrw] at this
      simp only [List.flatten_append, List.length_append]
      omega
    refine xe_copy (f := 0) hd hO hB' (by omega) hri (by omega) (by omega) fun M1 O1 F1 => ?_
    rw [nI_clamp (by omega), O1.2.2.1, nI_1]
    refine ⟨vp_in_nI hs (by omega), vp_in_nI hs (by omega), ?_⟩
    refine xe_copyAll_2 hd hs hB hls hp hq hr hRl hK n (i + 1) _ (by omega) ?_
    have := xe_O_inc O1
    rw [sl_take hri, ← List.append_assoc, List.flatten_append, List.length_append]
    simpa [Nat.add_assoc] using this
theorem xe_copyAll {l p : Nat} {R : List ay_Row} {O : List ay_Row} {K : wd_Z → wd_M → wd_L → Prop} (hd : 2 ≤ d) (hs : s < 32768) (hO : xe_O M0 M s q ws O.flatten O.length) (hB : xe_B M0 l p ws R) (hls : l ≠ s) (hp : p + R.length * ws ≤ q) (hq : q ≤ 600000) (hr : q + (O ++ R).flatten.length ≤ 600000) (hRl : R.length < 100000)
    (hK : ∀ M', xe_O M0 M' s q ws (O ++ R).flatten (O ++ R).length → K z M' L) : wRunV (d, 0, 0) mX5_copyAll [.ref 628, .int (nI s), .int (nI l)] z M L K := by
  obtain ⟨d, rfl, hd'⟩ := ak_deep hd
  refine fX5_copyAll_e ?_
  exact xe_copyAll_2 (d := d) hd' hs hB hls hp hq hr hRl hK R.length 0 M (by omega) (by simpa using hO)
end XE
