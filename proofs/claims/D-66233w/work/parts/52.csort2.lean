/-! CONTRACTS of ApplyFree$Executor: sort -/
theorem xe_lo_trans (R : List ay_Row) (a b c : Nat) (h1 : xe_lo R a b = true) (h2 : xe_lo R b c = true) : xe_lo R a c = true := sm_le_trans _ _ _ h1 h2
theorem xe_lo_total (R : List ay_Row) (a b : Nat) : (xe_lo R a b || xe_lo R b a) = true := sm_le_total _ _
def xe_pw (R : List ay_Row) (l : List Nat) : Prop := l.Pairwise (fun a b => xe_lo R a b = true)
/-- blocks of width w are in order -/
def xe_blk (R : List ay_Row) (w : Nat) (l : List Nat) : Prop := ∀ b, xe_pw R ((l.drop (b * w)).take w)
theorem xe_blk_app {R : List ay_Row} {w c : Nat} {l m : List Nat} (hl : l.length = c * w) (h : xe_blk R w l) (hm : m.length ≤ w) (hp : xe_pw R m) : xe_blk R w (l ++ m) := by
  intro b
  rcases Nat.lt_trichotomy b c with q | q | q
  · have h1 : (b + 1) * w ≤ c * w := Nat.mul_le_mul_right w q
    rw [Nat.succ_mul] at h1
    rw [List.drop_append_of_le_length (by omega), List.take_append_of_le_length (by rw [List.length_drop]; omega)]
    exact h b
  · subst q
    rw [List.drop_append, ← hl, List.drop_of_length_le (Nat.le_refl _), Nat.sub_self, List.drop_zero, List.nil_append, List.take_of_length_le hm]
    exact hp
  · have h1 : (c + 1) * w ≤ b * w := Nat.mul_le_mul_right w q
    rw [Nat.succ_mul] at h1
    rw [List.drop_of_length_le (by rw [List.length_append]; omega), List.take_nil]
    exact List.Pairwise.nil
theorem xe_blk_1 {R : List ay_Row} {l : List Nat} : xe_blk R 1 l := by
  intro b
  unfold xe_pw
  cases e : l.drop (b * 1) with
  | nil => simp
  | cons x t => simp
section XE
variable {d : Nat} {z : wd_Z} {L : wd_L}
/-- what stays in a sort -/
def xe_so (M M' : wd_M) : Prop := ∀ c, c ≠ 646 → c ≠ 647 → M' c = M c
theorem xe_B_so {M M' : wd_M} {l p w : Nat} {R : List ay_Row} (h : xe_B M l p w R) (e : xe_so M M') : xe_B M' l p w R := by
  unfold xe_B at *
  rw [e 638 (by omega) (by omega), e 639 (by omega) (by omega), e 640 (by omega) (by omega), e 641 (by omega) (by omega)]; exact h
theorem xe_sort_9 {M0 : wd_M} {l n0 : Nat} {Q : am_Q} (hn : n0 ≤ 8192) (hQ : ∀ M', xe_so M0 M' → sl_at (M' 646) 0 (xe_nl (List.range n0)) → wRun (d + 1, 0, 0) mX5_sort 29 [some (.ref 628), some (.int (nI l)), some (.int (nI n0)), some (.int (nI 1)), none] [] z M' L Q) : ∀ (n i : Nat) (M : wd_M), i + n = n0 → xe_so M0 M → sl_at (M 646) 0 (xe_nl (List.range i)) → wRun (d + 1, 0, 0) mX5_sort 9 [some (.ref 628), some (.int (nI l)), some (.int (nI n0)), some (.int (nI i)), none] [] z M L Q
  | 0, i, M, hi, hs, hr => by
    have ei : i = n0 := by omega
    subst ei
    exact fX5_sort_9 ⟨fun _ => hQ M hs hr, fun q => absurd (nI_le (Nat.le_refl _) (by omega)) q⟩
  | n + 1, i, M, hi, hs, hr => by
    refine fX5_sort_9 ⟨fun q => absurd q (nI_ge (by omega) (by omega)), fun _ => ?_⟩
    rw [nI_clamp (by omega), nI_1]
    refine ⟨vp_in_nI (by omega) (by omega), xe_sort_9 hn hQ n (i + 1) _ (by omega) (fun c c1 c2 => by rw [ak_up_cell c1]; exact hs c c1 c2) ?_⟩
    unfold xe_nl at *
    rw [List.range_succ, List.map_append, sl_app, List.length_map, List.length_range, ak_up_own]
    exact ⟨sl_upd hr (by simp), sl_one.mpr (by rw [Nat.zero_add, pk_us])⟩
/-- one pass -/
theorem xe_sort_37 {M0 : wd_M} {l p w wd' : Nat} {R : List ay_Row} {od : List Nat} {Q : am_Q} (hd : 2 ≤ d) (hB : xe_B M0 l p w R) (hp : p + R.length * w ≤ 600000) (hw : w < 100000) (hR : R.length ≤ 8192) (hpm : od.Perm (List.range R.length)) (hbl : xe_blk R wd' od) (h0 : 0 < wd') (hwn : wd' < R.length)
    (hQ : ∀ M' od', xe_so M0 M' → od'.Perm (List.range R.length) → xe_blk R (2 * wd') od' → sl_at (M' 646) 0 (xe_nl od') → wRun (d + 1, 0, 0) mX5_sort 29 [some (.ref 628), some (.int (nI l)), some (.int (nI R.length)), some (.int (nI (wd' * 2))), none] [] z M' L Q) :
    ∀ (n c : Nat) (M : wd_M) (as : List Nat), R.length ≤ c * (2 * wd') + n → xe_so M0 M → sl_at (M 646) 0 (xe_nl od) → sl_at (M 647) 0 (xe_nl as) → as.length = min (c * (2 * wd')) R.length → as.Perm (od.take (c * (2 * wd'))) → xe_blk R (2 * wd') as → c * (2 * wd') < R.length + 2 * wd' →
      wRun (d + 1, 0, 0) mX5_sort 37 [some (.ref 628), some (.int (nI l)), some (.int (nI R.length)), some (.int (nI wd')), some (.int (nI (c * (2 * wd'))))] [] z M L Q := by
  have hodl : od.length = R.length := by rw [hpm.length_eq, List.length_range]
  have hodm : ∀ x, x ∈ od → x < R.length := fun x hx => List.mem_range.mp (hpm.mem_iff.mp hx)
  have fin : ∀ (c : Nat) (M : wd_M) (as : List Nat), R.length ≤ c * (2 * wd') → xe_so M0 M → sl_at (M 646) 0 (xe_nl od) → sl_at (M 647) 0 (xe_nl as) → as.length = min (c * (2 * wd')) R.length → as.Perm (od.take (c * (2 * wd'))) → xe_blk R (2 * wd') as → c * (2 * wd') < R.length + 2 * wd' →
      wRun (d + 1, 0, 0) mX5_sort 37 [some (.ref 628), some (.int (nI l)), some (.int (nI R.length)), some (.int (nI wd')), some (.int (nI (c * (2 * wd'))))] [] z M L Q := by
    intro c M as hle hs ho ha hal hap hab hc
    rw [Nat.min_eq_right hle] at hal
    rw [List.take_of_length_le (by omega)] at hap
    refine fX5_sort_37 ⟨fun _ => ?_, fun q => absurd (nI_le hle (by omega)) q⟩
    rw [nI_clamp (show R.length < 2 ^ 31 by omega), sb_cl0, ak_n2, pk_mul]
    refine ⟨by decide, by decide, nI_pos (by omega), by omega, by omega, hQ _ as (fun c c1 c2 => by rw [ak_cp_cell c1]; exact hs c c1 c2) (hap.trans hpm) hab ?_⟩
    rw [ak_cp_own]
    exact sl_cpy_in ha (by rw [xe_nl_len, hal])
  intro n
  induction n with
  | zero =>
    intro c M as hle hs ho ha hal hap hab hc
    exact fin c M as (by omega) hs ho ha hal hap hab hc
  | succ n ih =>
    intro c M as hle hs ho ha hal hap hab hc
    by_cases hcn : R.length ≤ c * (2 * wd')
    · exact fin c M as hcn hs ho ha hal hap hab hc
    generalize hf : c * (2 * wd') = f at *
    have hal : as.length = f := by rw [hal]; omega
    have hs1 : (c + 1) * (2 * wd') = f + 2 * wd' := by rw [Nat.succ_mul, hf]
    refine fX5_sort_37 ⟨fun q => absurd q (nI_ge (by omega) (by omega)), fun _ => ?_⟩
    rw [ak_n2, pk_mul, nI_add, nI_add]
    have e1 : (if nI (f + wd') < nI R.length then nI (f + wd') else nI R.length) = nI (min (f + wd') R.length) := by
      split
      · rename_i q
        rw [nI_ltI (by omega) (by omega)] at q
        rw [Nat.min_eq_left (by omega)]
      · rename_i q
        rw [nI_ltI (by omega) (by omega)] at q
        rw [Nat.min_eq_right (by omega)]
    have e2 : (if nI (f + 2 * wd') < nI R.length then nI (f + 2 * wd') else nI R.length) = nI (min (f + 2 * wd') R.length) := by
      split
      · rename_i q
        rw [nI_ltI (by omega) (by omega)] at q
        rw [Nat.min_eq_left (by omega)]
      · rename_i q
        rw [nI_ltI (by omega) (by omega)] at q
        rw [Nat.min_eq_right (by omega)]
    rw [e1, e2]
    refine xe_merge hd (xe_B_so hB hs) hp hw (by omega) (by omega) (by omega) (by omega) hodm ho fun M1 F1 a1 a2 => ?_
    generalize hA : (od.drop f).take (min (f + wd') R.length - f) = A at a1
    generalize hBb : (od.drop (min (f + wd') R.length)).take (min (f + 2 * wd') R.length - min (f + wd') R.length) = B at a1
    have lA : A.length = min (f + wd') R.length - f := by rw [← hA, List.length_take, List.length_drop]; omega
    have lB : B.length = min (f + 2 * wd') R.length - min (f + wd') R.length := by rw [← hBb, List.length_take, List.length_drop]; omega
    have eAB : A ++ B = (od.drop f).take (min (f + 2 * wd') R.length - f) := by
      rw [← hA, ← hBb]
      have : od.drop (min (f + wd') R.length) = (od.drop f).drop (min (f + wd') R.length - f) := by rw [List.drop_drop]; congr 1; omega
      rw [this]
      have h3 : min (f + 2 * wd') R.length - f = (min (f + wd') R.length - f) + (min (f + 2 * wd') R.length - min (f + wd') R.length) := by omega
      rw [h3, List.take_add]
    have pA : xe_pw R A := by
      have := hbl (2 * c)
      have e : 2 * c * wd' = f := by rw [← hf, Nat.mul_assoc, Nat.mul_left_comm]
      rw [e] at this
      have : xe_pw R (((od.drop f).take wd').take (min (f + wd') R.length - f)) := List.Pairwise.sublist (List.take_sublist _ _) this
      rw [List.take_take, Nat.min_eq_left (by omega), hA] at this
      exact this
    have pB : xe_pw R B := by
      by_cases hlt : f + wd' ≤ R.length
      · have := hbl (2 * c + 1)
        have e : (2 * c + 1) * wd' = f + wd' := by rw [Nat.succ_mul, ← hf, Nat.mul_assoc, Nat.mul_left_comm]
        rw [e] at this
        rw [Nat.min_eq_left hlt] at hBb
        have : xe_pw R (((od.drop (f + wd')).take wd').take (min (f + 2 * wd') R.length - (f + wd'))) := List.Pairwise.sublist (List.take_sublist _ _) this
        rw [List.take_take, Nat.min_eq_left (by omega), hBb] at this
        exact this
      · have : B = [] := List.length_eq_zero_iff.mp (by omega)
        rw [this]; exact List.Pairwise.nil
    have pM : xe_pw R (List.merge A B (xe_lo R)) := List.pairwise_merge (xe_lo_trans R) (xe_lo_total R) A B pA pB
    have pp : (List.merge A B (xe_lo R)).Perm (A ++ B) := List.merge_perm_append _
    have lM : (List.merge A B (xe_lo R)).length = A.length + B.length := by rw [pp.length_eq, List.length_append]
    rw [← hs1]
    refine ih (c + 1) M1 (as ++ List.merge A B (xe_lo R)) (by omega) (fun c c1 c2 => by rw [F1 c c2]; exact hs c c1 c2) (by rw [F1 646 (by omega)]; exact ho) ?_ ?_ ?_ (xe_blk_app (c := c) (by omega) hab (by omega) pM) (by omega)
    · unfold xe_nl
      rw [List.map_append, sl_app, List.length_map, Nat.zero_add, hal]
      exact ⟨sl_congr ha fun i hi => a2 _ (by rw [List.length_map] at hi; omega), a1⟩
    · rw [List.length_append, lM, hs1]; omega
    · rw [hs1]
      have e3 : od.take (f + 2 * wd') = od.take f ++ (A ++ B) := by
        rw [eAB, List.take_add]
        congr 1
        by_cases hlt : f + 2 * wd' ≤ R.length
        · congr 1; omega
        · rw [List.take_of_length_le (by rw [List.length_drop]; omega), List.take_of_length_le (by rw [List.length_drop]; omega)]
      rw [e3]
      exact hap.append pp
/-- the rows in order: by their places -/
def xe_srt (R : List ay_Row) (od : List Nat) : Prop := od.Perm (List.range R.length) ∧ od.map (fun i => R.getD i []) = sm_srt R
theorem xe_srt_of {R : List ay_Row} {od : List Nat} (h : od.Perm (List.range R.length)) (hp : xe_pw R od) : xe_srt R od := by
  refine ⟨h, sm_srt_uniq ?_ ?_⟩
  · refine (h.map _).trans (List.Perm.of_eq ?_)
    apply List.ext_getElem?
    intro i
    by_cases hi : i < R.length
    · rw [List.getElem?_map, List.getElem?_range hi]
      show some (R.getD i []) = _
      rw [List.getD_eq_getElem?_getD, List.getElem?_eq_getElem hi]; rfl
    · rw [List.getElem?_eq_none (by simp; omega), List.getElem?_eq_none (by omega)]
  · rw [List.pairwise_map]
    exact hp
theorem xe_sort {M0 : wd_M} {l p w : Nat} {R : List ay_Row} {K : wd_Z → wd_M → wd_L → Prop} (hd : 3 ≤ d) (hB : xe_B M0 l p w R) (hp : p + R.length * w ≤ 600000) (hw : w < 100000) (hR : R.length ≤ 8192)
    (hK : ∀ M' od, xe_so M0 M' → xe_srt R od → sl_at (M' 646) 0 (xe_nl od) → K z M' L) : wRunV (d, 0, 0) mX5_sort [.ref 628, .int (nI l)] z M0 L K := by
  obtain ⟨d, rfl, hd'⟩ := ak_deep hd
  have hl := hB.1
  -- passes
  have loop : ∀ (n wd' : Nat) (M : wd_M) (od : List Nat), R.length ≤ wd' + n → 0 < wd' → wd' ≤ 2 * R.length + 1 → xe_so M0 M → od.Perm (List.range R.length) → xe_blk R wd' od → sl_at (M 646) 0 (xe_nl od) → wRun (d + 1, 0, 0) mX5_sort 29 [some (.ref 628), some (.int (nI l)), some (.int (nI R.length)), some (.int (nI wd')), none] [] z M L (wQv K) := by
    have fin : ∀ (wd' : Nat) (M : wd_M) (od : List Nat), R.length ≤ wd' → wd' ≤ 2 * R.length + 1 → xe_so M0 M → od.Perm (List.range R.length) → xe_blk R wd' od → sl_at (M 646) 0 (xe_nl od) → wRun (d + 1, 0, 0) mX5_sort 29 [some (.ref 628), some (.int (nI l)), some (.int (nI R.length)), some (.int (nI wd')), none] [] z M L (wQv K) := by
      intro wd' M od hle hlt hs hpm hb ho
      have hodl : od.length = R.length := by rw [hpm.length_eq, List.length_range]
      refine fX5_sort_29 ⟨fun _ => wQv_i (hK M od hs (xe_srt_of hpm ?_) ho), fun q => absurd (nI_le hle (by omega)) q⟩
      have := hb 0
      rw [Nat.zero_mul, List.drop_zero, List.take_of_length_le (by omega)] at this
      exact this
    intro n
    induction n with
    | zero => exact fun wd' M od hle h0 hlt hs hpm hb ho => fin wd' M od (by omega) hlt hs hpm hb ho
    | succ n ih =>
      intro wd' M od hle h0 hlt hs hpm hb ho
      by_cases hwn : R.length ≤ wd'
      · exact fin wd' M od hwn hlt hs hpm hb ho
      refine fX5_sort_29 ⟨fun q => absurd q (nI_ge (by omega) (by omega)), fun _ => ?_⟩
      have := xe_sort_37 (d := d) (z := z) (L := L) (Q := wQv K) hd' (xe_B_so hB hs) hp hw hR hpm hb h0 (by omega) (fun M' od' s' p' b' o' => by
        rw [Nat.mul_comm wd' 2]
        exact ih (2 * wd') M' od' (by omega) (by omega) (by omega) (fun c c1 c2 => (s' c c1 c2).trans (hs c c1 c2)) p' b' o') R.length 0 M [] (by omega) (fun _ _ _ => rfl) ho (by unfold xe_nl; exact sl_nil) (by simp) (by simp) (fun b => by simp [xe_pw]) (by omega)
      rw [Nat.zero_mul] at this
      exact this
  refine fX5_sort_e ?_
  rw [nI_clamp (show l < 2 ^ 31 by omega), hB.2.2.1, ak_n0]
  refine ⟨vp_in_nI hl (by omega), xe_sort_9 (M0 := M0) hR (fun M' s' r' => loop R.length 1 M' (List.range R.length) (by omega) (by omega) (by omega) s' (List.Perm.refl _) xe_blk_1 r') R.length 0 M0 (by omega) (fun _ _ _ => rfl) (by unfold xe_nl; simpa using sl_nil)⟩
end XE
