/-! CONTRACTS of ApplyFree$Executor: folded, gather -/
theorem sm_some_snoc {vs : List Int32} {v : Int32} : sm_some (vs ++ [v]) = if v = (-2147483648 : Int32) then sm_some vs else sm_some vs ++ [v] := by
  unfold sm_some
  rw [List.filter_append]
  by_cases h : v = (-2147483648 : Int32)
  · rw [if_pos h]; simp [h]
  · rw [if_neg h]
    have : (v == (-2147483648 : Int32)) = false := by rw [beq_eq_false_iff_ne]; exact h
    simp [this]
theorem sm_ext_snoc {g : Int32 → Int32 → Int32} {l : List Int32} {v : Int32} : sm_ext g (l ++ [v]) = if l = [] then v else g (sm_ext g l) v := by
  cases l with
  | nil => rfl
  | cons x r =>
    rw [if_neg (by simp)]
    show (r ++ [v]).foldl g x = g (r.foldl g x) v
    rw [List.foldl_append]; rfl
theorem sm_hi_a {a v : Int32} (h : v ≤ a) : sm_hi a v = a := by unfold sm_hi; rw [if_neg (by rw [sm_i_lt]; rw [sm_i_le] at h; omega)]
theorem sm_hi_b {a v : Int32} (h : ¬ v ≤ a) : sm_hi a v = v := by unfold sm_hi; rw [if_pos (by rw [sm_i_lt]; rw [sm_i_le] at h; omega)]
theorem sm_lo_a {a v : Int32} (h : a ≤ v) : sm_lo a v = a := by unfold sm_lo; rw [if_neg (by rw [sm_i_lt]; rw [sm_i_le] at h; omega)]
theorem sm_lo_b {a v : Int32} (h : ¬ a ≤ v) : sm_lo a v = v := by unfold sm_lo; rw [if_pos (by rw [sm_i_lt]; rw [sm_i_le] at h; omega)]
/-- whether some value of a column is something, as a flag -/
def xe_sm (vs : List Int32) : Int32 := if sm_some vs = [] then 0 else 1
section XE
variable {d : Nat} {z : wd_Z} {M0 : wd_M} {L : wd_L} {s q : Nat}
theorem xe_folded {M : wd_M} {k j : Nat} {vs : List Int32} {v so : Int32} {K : Int32 → wd_Z → wd_M → wd_L → Prop} (hk : k ≤ 4) (hj : j < 8192) (hvs : vs.length < 100000) (h36 : M 636 j = nI (vs.length + 1)) (h48 : vs ≠ [] → k ≠ 0 → M 648 j = xe_sm vs) (hso : so = sm_fold k vs)
    (hK : ∀ M', (∀ c, c ≠ 648 → M' c = M c) → (∀ i, i ≠ j → M' 648 i = M 648 i) → (k ≠ 0 → M' 648 j = xe_sm (vs ++ [v])) → K (sm_fold k (vs ++ [v])) z M' L) : wRunI (d, 0, 0) mX5_folded [.ref 628, .int (nI k), .int so, .int v, .int (nI j)] z M L K := by
  have nar0 : vp_nar .boolean (nI 0) = 0 := by decide
  have nar1 : vp_nar .boolean 1 = 1 := by decide
  have hin : vp_in (nI j) 8192 := vp_in_nI hj (by omega)
  subst hso
  refine fX5_folded_e ?_
  rw [ak_n0, ak_n1, nI_eq (by omega) (by omega), nI_clamp (show j < 2 ^ 31 by omega), h36, nI_eq (by omega) (by omega)]
  refine ⟨fun e => wQi_i ?_, fun e0 => ⟨hin, ?_⟩⟩
  · have hK := hK M (fun _ _ => rfl) (fun _ _ => rfl) (fun h => absurd e h)
    unfold sm_fold at hK ⊢
    rw [if_pos e] at hK ⊢
    rw [← ak_n1, nI_1]
    rw [List.length_append] at hK
    exact hK
  -- with the flag as it is due
  have c30 : ∀ {M1 : wd_M}, (∀ c, c ≠ 648 → M1 c = M c) → (∀ i, i ≠ j → M1 648 i = M 648 i) → M1 648 j = xe_sm vs → wRun (d, 0, 0) mX5_folded 30 [some (.ref 628), some (.int (nI k)), some (.int (sm_fold k vs)), some (.int v), some (.int (nI j)), none] [] z M1 L (wQi K) := fun {M1} f1 f2 f3 => by
    refine fX5_folded_30 ⟨fun e => wQi_i ?_, fun e => ?_⟩
    · have es : sm_some (vs ++ [v]) = sm_some vs := by rw [sm_some_snoc, if_pos e]
      have : sm_fold k (vs ++ [v]) = sm_fold k vs := by
        unfold sm_fold
        rw [es, if_neg e0, if_neg e0]
      rw [← this]
      exact hK M1 f1 f2 fun _ => by rw [f3]; unfold xe_sm; rw [es]
    · have es : sm_some (vs ++ [v]) = sm_some vs ++ [v] := by rw [sm_some_snoc, if_neg e]
      have ex : xe_sm (vs ++ [v]) = 1 := by unfold xe_sm; rw [es, if_neg (by simp)]
      have fin : ∀ {w : Int32}, sm_fold k (vs ++ [v]) = w → K w z (am_up2 M1 648 j 1) L := fun {w} hw => by
        rw [← hw]
        exact hK _ (fun c hc => by rw [ak_up_cell hc, f1 c hc]) (fun i hi => by rw [ak_up_ne hi, f2 i hi]) fun _ => by rw [ak_up_same, ex]
      have fo : ∀ k', k = k' → k' ≠ 0 → k' ≠ 5 → sm_fold k (vs ++ [v]) = (if k' = 1 then nI ((sm_some vs).length + 1) else if k' = 2 then (if sm_some vs = [] then v else sm_ext (fun a v => a + v) (sm_some vs) + v) else if k' = 3 then (if sm_some vs = [] then v else sm_lo (sm_ext sm_lo (sm_some vs)) v) else (if sm_some vs = [] then v else sm_hi (sm_ext sm_hi (sm_some vs)) v)) := fun k' e1 e2 e3 => by
        subst e1
        unfold sm_fold
        rw [if_neg e2, if_neg e3, es, List.length_append, sm_ext_snoc, sm_ext_snoc, sm_ext_snoc]
        rfl
      have so' : ∀ k', k = k' → k' ≠ 0 → k' ≠ 5 → sm_fold k vs = (if k' = 1 then nI (sm_some vs).length else if k' = 2 then sm_ext (fun a v => a + v) (sm_some vs) else if k' = 3 then sm_ext sm_lo (sm_some vs) else sm_ext sm_hi (sm_some vs)) := fun k' e1 e2 e3 => by
        subst e1
        unfold sm_fold
        rw [if_neg e2, if_neg e3]
      have c53 : ∀ {b : Int32}, (b = 0 ↔ sm_some vs ≠ []) → wRun (d, 0, 0) mX5_folded 53 [some (.ref 628), some (.int (nI k)), some (.int (sm_fold k vs)), some (.int v), some (.int (nI j)), none] [.int b] z M1 L (wQi K) := fun {b} hb => by
        refine fX5_folded_53 ?_
        rw [nI_clamp (show j < 2 ^ 31 by omega), nI_toInt (show k < 2 ^ 31 by omega), nar1]
        refine ⟨hin, fun e1 => ?_, fun e1 => ?_, fun e1 => ?_, fun e1 => ?_, trivial⟩
        · have k4 : k = 4 := by omega
          have c135 : ∀ {w : Int32}, sm_fold k (vs ++ [v]) = w → wRun (d, 0, 0) mX5_folded 140 [none, none, none, none, none, none] [.int w] z (am_up2 M1 648 j 1) L (wQi K) := fun {w} hw => fX5_folded_140 (wQi_i (fin hw))
          have f4 := fo 4 k4 (by omega) (by omega)
          have s4 := so' 4 k4 (by omega) (by omega)
          rw [if_neg (by omega), if_neg (by omega), if_neg (by omega)] at f4 s4
          refine ⟨fun eb => ⟨fun el => c135 ?_, fun el => fX5_folded_135 (c135 ?_)⟩, fun eb => fX5_folded_135 (c135 ?_)⟩
          · rw [f4, if_neg (hb.mp eb), s4]
            rw [s4] at el
            rw [sm_hi_a el]
          · rw [f4, if_neg (hb.mp eb)]
            rw [s4] at el
            rw [sm_hi_b el]
          · rw [f4, if_pos (Decidable.not_not.mp fun h => eb (hb.mpr h))]
        · have k1 : k = 1 := by omega
          have f4 := fo 1 k1 (by omega) (by omega)
          have s4 := so' 1 k1 (by omega) (by omega)
          rw [if_pos rfl] at f4 s4
          refine wQi_i ?_
          rw [s4, nI_1]
          exact fin f4
        · have k2 : k = 2 := by omega
          have f4 := fo 2 k2 (by omega) (by omega)
          have s4 := so' 2 k2 (by omega) (by omega)
          rw [if_neg (by omega), if_pos rfl] at f4 s4
          refine ⟨fun eb => fX5_folded_108 (wQi_i (fin ?_)), fun eb => fX5_folded_108 (wQi_i (fin ?_))⟩
          · rw [f4, if_neg (hb.mp eb), s4]
          · rw [f4, if_pos (Decidable.not_not.mp fun h => eb (hb.mpr h))]
        · have k3 : k = 3 := by omega
          have c124 : ∀ {w : Int32}, sm_fold k (vs ++ [v]) = w → wRun (d, 0, 0) mX5_folded 124 [none, none, none, none, none, none] [.int w] z (am_up2 M1 648 j 1) L (wQi K) := fun {w} hw => fX5_folded_124 (wQi_i (fin hw))
          have f4 := fo 3 k3 (by omega) (by omega)
          have s4 := so' 3 k3 (by omega) (by omega)
          rw [if_neg (by omega), if_neg (by omega), if_pos rfl] at f4 s4
          refine ⟨fun eb => ⟨fun el => c124 ?_, fun el => fX5_folded_119 (c124 ?_)⟩, fun eb => fX5_folded_119 (c124 ?_)⟩
          · rw [f4, if_neg (hb.mp eb), s4]
            rw [s4] at el
            rw [sm_lo_a el]
          · rw [f4, if_neg (hb.mp eb)]
            rw [s4] at el
            rw [sm_lo_b el]
          · rw [f4, if_pos (Decidable.not_not.mp fun h => eb (hb.mpr h))]
      rw [nI_clamp (show j < 2 ^ 31 by omega), f3]
      refine ⟨hin, fun e1 => c53 ⟨fun h => absurd h (by decide), fun h => ?_⟩, fun e1 => c53 ⟨fun _ h => ?_, fun _ => rfl⟩⟩
      · unfold xe_sm at e1
        rw [if_neg h] at e1
        exact absurd e1 (by decide)
      · unfold xe_sm at e1
        rw [if_pos h] at e1
        exact e1 rfl
  refine ⟨fun e => ⟨hin, ?_⟩, fun e => ?_⟩
  · have ev : vs = [] := List.length_eq_zero_iff.mp (by omega)
    rw [nar0]
    refine c30 (fun c hc => ak_up_cell hc) (fun i hi => ak_up_ne hi) ?_
    rw [ak_up_same, ev]; rfl
  · have ev : vs ≠ [] := fun h => e (by rw [h]; rfl)
    exact c30 (fun _ _ => rfl) (fun _ _ => rfl) (h48 ev e0)
/-- the column's values of the rows with a key -/
def xe_vs (ls : List Int32) (c : Nat) (R : List ay_Row) (g : List Int32) : List Int32 := sm_at c (R.filter (fun x => ex_key ls x == g))
theorem xe_vs_s {ls : List Int32} {c i : Nat} {R : List ay_Row} {r : ay_Row} {g : List Int32} (h : R[i]? = some r) : xe_vs ls c (R.take (i + 1)) g = if ex_key ls r = g then xe_vs ls c (R.take i) g ++ [r.getD c 0] else xe_vs ls c (R.take i) g := by
  unfold xe_vs
  rw [sl_take h, List.filter_append]
  by_cases e : ex_key ls r = g
  · rw [if_pos e]
    have : (ex_key ls r == g) = true := by rw [beq_iff_eq]; exact e
    simp [sm_at, this]
  · rw [if_neg e]
    have : (ex_key ls r == g) = false := by rw [beq_eq_false_iff_ne]; exact e
    simp [sm_at, this]
theorem xe_vs_len {ls : List Int32} {c : Nat} {R : List ay_Row} {g : List Int32} : (xe_vs ls c R g).length = (R.map (ex_key ls)).count g := by
  unfold xe_vs sm_at
  rw [List.length_map, List.count_eq_countP, List.countP_map, List.countP_eq_length_filter]
  rfl
theorem xe_vs_nil {ls : List Int32} {c : Nat} {R : List ay_Row} {g : List Int32} (h : g ∉ R.map (ex_key ls)) : xe_vs ls c R g = [] := by
  rw [← List.length_eq_zero_iff, xe_vs_len]
  exact List.count_eq_zero.mpr h
end XE
