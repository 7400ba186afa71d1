/-! CONTRACTS of ApplyFreeModel: folded -/
abbrev my_lk : Type := Option (Nat × ay_Row)
def my_lkI (lk : my_lk) : Int32 := ak_o (lk.map Prod.fst)
def my_sel (cols : Int32) (w : Nat) (lk : my_lk) (r : ay_Row) : Bool := match lk with
  | none => true
  | some q => my_like cols w q.2 r
def my_vs (c : Nat) (cols : Int32) (w : Nat) (lk : my_lk) (R : List ay_Row) (i : Nat) : List Int32 := sm_at c ((R.take i).filter (my_sel cols w lk))
theorem my_vs_succ {c : Nat} {cols : Int32} {w : Nat} {lk : my_lk} {R : List ay_Row} {i : Nat} {r : ay_Row} (h : R[i]? = some r) : my_vs c cols w lk R (i + 1) = my_vs c cols w lk R i ++ (if my_sel cols w lk r then [r.getD c 0] else []) := by
  unfold my_vs sm_at
  rw [sl_take h, List.filter_append, List.map_append]
  congr 1
  rw [List.filter_cons, List.filter_nil]
  split <;> rfl
def my_fs (k : Nat) (vs : List Int32) (x8 x9 x10 : Int32) (x11 : Int64) (x13 x14 : Int32) : Prop :=
  x8 = nI vs.length ∧ x9 = nI (sm_some vs).length ∧ (k = 5 → x10 = nI (sm_once (sm_some vs)).length) ∧ (sm_some vs ≠ [] → x11.toInt32 = sm_ext (fun a v => a + v) (sm_some vs) ∧ x13 = sm_ext sm_lo (sm_some vs) ∧ x14 = sm_ext sm_hi (sm_some vs)) ∧ (sm_some vs = [] → x11 = 0)
abbrev my_fl (k p n w c : Nat) (lk : my_lk) (cols : Int32) (tl : am_AL) : am_AL := some (.ref 650) :: some (.int (nI k)) :: some (.int (nI p)) :: some (.int (nI n)) :: some (.int (nI w)) :: some (.int (nI c)) :: some (.int (my_lkI lk)) :: some (.int cols) :: tl
section MY
variable {d : Nat} {z : wd_Z} {L : wd_L} {M : wd_M}
/-- what a fold has at hand -/
def my_fh (M : wd_M) (k p w c : Nat) (lk : my_lk) (R : List ay_Row) : Prop := k ≤ 5 ∧ c < w ∧ my_A M p w R ∧ p + w * R.length ≤ 600000 ∧ ∀ q, lk = some q → sl_at (M 665) q.1 q.2 ∧ q.2.length = w ∧ q.1 + w ≤ 600000
theorem my_fh_len {k p w c : Nat} {lk : my_lk} {R : List ay_Row} (h : my_fh M k p w c lk R) : R.length ≤ 600000 := by
  have : 1 * R.length ≤ w * R.length := Nat.mul_le_mul_right _ (by have := h.2.1; omega)
  have := h.2.2.2.1
  omega
theorem my_folded_144 {k p w c i : Nat} {lk : my_lk} {cols : Int32} {R : List ay_Row} {v x8 x9 x10 x13 x14 : Int32} {x11 : Int64} {Q : am_Q} (h : my_fh M k p w c lk R) (hi : i ≤ R.length)
    (go : wRun (d + 1, 0, 0) mX8_folded 219 (my_fl k p R.length w c lk cols [some (.int x8), some (.int x9), some (.int x10), some (.long x11), none, some (.int x13), some (.int x14), some (.int (nI i)), none, none, some (.int (if k = 5 ∧ v ∈ my_vs c cols w lk R i then 0 else 1)), none, none]) [] z M L Q) :
    ∀ m j, j + m = i → wRun (d + 1, 0, 0) mX8_folded 144 (my_fl k p R.length w c lk cols [some (.int x8), some (.int x9), some (.int x10), some (.long x11), none, some (.int x13), some (.int x14), some (.int (nI i)), none, some (.int v), some (.int (if k = 5 ∧ v ∈ my_vs c cols w lk R j then 0 else 1)), some (.int (nI j)), none]) [] z M L Q
  | 0, j, hj => by
    have ej : j = i := by omega
    subst ej
    have := my_fh_len h
    exact fX8_folded_144 ⟨fun _ => go, fun q => absurd (nI_le (Nat.le_refl _) (by omega)) q⟩
  | m + 1, j, hj => by
    have hl := my_fh_len h
    obtain ⟨hk, hc, hA, hp, hlk⟩ := id h
    obtain ⟨r, hr⟩ := sl_idx (show j < R.length by omega)
    have g := my_A_row hA hr
    have ev : M 665 (p + w * j + c) = r.getD c 0 := sl_getD g.1 (by omega)
    have hs := my_vs_succ (c := c) (cols := cols) (w := w) (lk := lk) hr
    have sub : ∀ n, ∀ x, x ∈ my_vs c cols w lk R j → x ∈ my_vs c cols w lk R (j + n) := fun n x hx => by
      unfold my_vs sm_at at hx ⊢
      rw [List.mem_map] at hx ⊢
      obtain ⟨y, hy, e⟩ := hx
      refine ⟨y, ?_, e⟩
      rw [List.mem_filter] at hy ⊢
      exact ⟨(List.take_subset_take_left R (by omega)) hy.1, hy.2⟩
    have nxt : ∀ s : Int32, (if k = 5 ∧ v ∈ my_vs c cols w lk R (j + 1) then (0 : Int32) else 1) = s → wRun (d + 1, 0, 0) mX8_folded 211 (my_fl k p R.length w c lk cols [some (.int x8), some (.int x9), some (.int x10), some (.long x11), none, some (.int x13), some (.int x14), some (.int (nI i)), none, some (.int v), none, some (.int (nI j)), none]) [.int s] z M L Q := fun s e => by
      refine fX8_folded_211 ?_
      rw [← e, nI_1]
      exact my_folded_144 h hi go m (j + 1) (by omega)
    by_cases q : k = 5 ∧ v ∈ my_vs c cols w lk R j
    · rw [if_pos q]
      have : v ∈ my_vs c cols w lk R i := by
        have := sub (m + 1) v q.2
        rwa [hj] at this
      rw [if_pos ⟨q.1, this⟩] at go
      exact fX8_folded_144 ⟨fun _ => go, fun _ => ⟨fun _ => go, fun q => absurd rfl q⟩⟩
    · rw [if_neg q]
      refine fX8_folded_144 ?_
      rw [ak_n5, pk_mul, nI_add, nI_add, nI_clamp (show p + w * j + c < 2 ^ 31 by omega), ev]
      refine ⟨fun q => absurd q (nI_ge (by omega) (by omega)), fun _ => ⟨fun q => absurd q (by decide), fun _ => ⟨fun e5 => ⟨vp_in_nI (by omega) (by omega), fun e => ?_, fun e => ?_⟩, fun e5 => ?_⟩⟩⟩
      · have k5 : k = 5 := (nI_eq (by omega) (by omega)).mp e5
        have nq : v ∉ my_vs c cols w lk R j := fun h => q ⟨k5, h⟩
        cases lk with
        | none =>
          refine ⟨fun _ => fX8_folded_210 (nxt 0 ?_), fun e => absurd rfl e⟩
          rw [hs]
          exact if_pos ⟨k5, List.mem_append_right _ (by rw [← e]; simp [my_sel])⟩
        | some q0 =>
          have hq0 := hlk q0 rfl
          refine ⟨fun e' => absurd e' ?_, fun _ => my_alike hq0.1 g.1 hq0.2.1 g.2.1 hq0.2.2 (by omega) ?_⟩
          · intro e'
            have h1 := nI_pos (show q0.1 < 2 ^ 31 by omega)
            have e' : nI q0.1 = -1 := e'
            rw [e'] at h1
            exact h1 (by decide)
          · cases hlike : my_like cols w q0.2 r with
            | true =>
              refine ⟨fun q => absurd q (by decide), fun _ => fX8_folded_210 (nxt 0 ?_)⟩
              rw [hs]
              exact if_pos ⟨k5, List.mem_append_right _ (by rw [← e]; simp [my_sel, hlike])⟩
            | false =>
              refine ⟨fun _ => fX8_folded_206 (nxt 1 ?_), fun q => absurd rfl q⟩
              rw [hs]
              refine if_neg fun h' => nq ?_
              have h' := h'.2
              simp only [my_sel, hlike] at h'
              simpa using h'
      · have k5 : k = 5 := (nI_eq (by omega) (by omega)).mp e5
        have nq : v ∉ my_vs c cols w lk R j := fun h => q ⟨k5, h⟩
        refine fX8_folded_206 (nxt 1 ?_)
        rw [hs]
        refine if_neg fun h' => nq ?_
        rcases List.mem_append.mp h'.2 with h' | h'
        · exact h'
        · split at h'
          · exact absurd (List.mem_singleton.mp h').symm e
          · cases h'
      · have k5 : ¬ k = 5 := fun e => e5 (by rw [e])
        rw [if_neg fun h => k5 h.1] at go
        exact go
theorem my_lng (a : Int64) (v : Int32) : (a + v.toInt64).toInt32 = a.toInt32 + v := by
  rw [Int64.toInt32_add, Int32.toInt32_toInt64]
theorem my_folded_21 {k p w c : Nat} {lk : my_lk} {cols : Int32} {R : List ay_Row} {K : Int32 → wd_Z → wd_M → wd_L → Prop} (h : my_fh M k p w c lk R) (hK : K (sm_fold k (my_vs c cols w lk R R.length)) z M L) :
    ∀ m i (x8 x9 x10 x13 x14 : Int32) (x11 : Int64), i + m = R.length → my_fs k (my_vs c cols w lk R i) x8 x9 x10 x11 x13 x14 → wRun (d + 1, 0, 0) mX8_folded 21 (my_fl k p R.length w c lk cols [some (.int x8), some (.int x9), some (.int x10), some (.long x11), none, some (.int x13), some (.int x14), some (.int (nI i)), none, none, none, none, none]) [] z M L (wQi K)
  | 0, i, x8, x9, x10, x13, x14, x11, hi, hs => by
    have hl := my_fh_len h
    obtain ⟨hk, hc, hA, hp, hlk⟩ := id h
    have ei : i = R.length := by omega
    subst ei
    obtain ⟨s8, s9, s10, s11, -⟩ := hs
    have hvl : (sm_some (my_vs c cols w lk R R.length)).length ≤ R.length := by
      refine Nat.le_trans (List.length_filter_le _ _) ?_
      unfold my_vs sm_at
      rw [List.length_map]
      exact Nat.le_trans (List.length_filter_le _ _) (by rw [List.length_take]; omega)
    unfold sm_fold at hK
    refine fX8_folded_21 ⟨fun _ => ⟨fun q2 => ⟨fun e5 => ?_, fun e5 => ⟨fun e0 => ?_, fun e0 => ⟨fun e2 => ?_, fun e2 => ⟨fun e3 => ?_, fun e3 => ?_⟩⟩⟩⟩, fun q2 => ⟨fun e0 => ?_, fun e0 => ?_⟩⟩, fun q => absurd (nI_le (Nat.le_refl _) (by omega)) q⟩
    · have k5 : k = 5 := (nI_eq (by omega) (by omega)).mp e5
      rw [if_neg (by omega), if_neg (by omega), if_pos k5, ← s10 k5] at hK
      exact wQi_i hK
    · have k2 : 2 ≤ k := (nI_leI (by omega) (by omega)).mp q2
      have k5 : ¬ k = 5 := fun e => e5 (by rw [e]; rfl)
      have hn : sm_some (my_vs c cols w lk R R.length) = [] := by
        rw [s9] at e0
        exact List.eq_nil_of_length_eq_zero ((nI_eq (by omega) (by omega)).mp e0)
      rw [if_neg (by omega), if_neg (by omega), if_neg k5, hn] at hK
      refine fX8_folded_298 (wQi_i ?_)
      by_cases h2 : k = 2
      · rw [if_pos h2] at hK; exact hK
      · rw [if_neg h2] at hK
        by_cases h3 : k = 3
        · rw [if_pos h3] at hK; exact hK
        · rw [if_neg h3] at hK; exact hK
    · have k2 : k = 2 := (nI_eq (by omega) (by omega)).mp e2
      have hn : sm_some (my_vs c cols w lk R R.length) ≠ [] := fun e => e0 (by rw [s9, e]; rfl)
      rw [if_neg (by omega), if_neg (by omega), if_neg (by omega), if_pos k2, ← (s11 hn).1] at hK
      exact fX8_folded_298 (wQi_i hK)
    · have k3 : k = 3 := (nI_eq (by omega) (by omega)).mp e3
      have hn : sm_some (my_vs c cols w lk R R.length) ≠ [] := fun e => e0 (by rw [s9, e]; rfl)
      rw [if_neg (by omega), if_neg (by omega), if_neg (by omega), if_neg (by omega), if_pos k3, ← (s11 hn).2.1] at hK
      exact fX8_folded_298 (wQi_i hK)
    · have k2 : 2 ≤ k := (nI_leI (by omega) (by omega)).mp q2
      have k5 : ¬ k = 5 := fun e => e5 (by rw [e]; rfl)
      have k2' : ¬ k = 2 := fun e => e2 (by rw [e]; rfl)
      have k3 : ¬ k = 3 := fun e => e3 (by rw [e]; rfl)
      have hn : sm_some (my_vs c cols w lk R R.length) ≠ [] := fun e => e0 (by rw [s9, e]; rfl)
      rw [if_neg (by omega), if_neg (by omega), if_neg k5, if_neg k2', if_neg k3, ← (s11 hn).2.2] at hK
      exact fX8_folded_298 (wQi_i hK)
    · have k0 : k = 0 := (nI_eq (by omega) (by omega)).mp e0
      rw [if_pos k0, ← s8] at hK
      exact fX8_folded_256 (wQi_i hK)
    · have k0 : ¬ k = 0 := fun e => e0 (by rw [e]; rfl)
      have k2 : ¬ 2 ≤ k := fun e => q2 (nI_le (a := 2) e (by omega))
      rw [if_neg k0, if_pos (by omega), ← s9] at hK
      exact fX8_folded_256 (wQi_i hK)
  | m + 1, i, x8, x9, x10, x13, x14, x11, hi, hs => by
    have hl := my_fh_len h
    obtain ⟨hk, hc, hA, hp, hlk⟩ := id h
    obtain ⟨r, hr⟩ := sl_idx (show i < R.length by omega)
    have g := my_A_row hA hr
    have ev : M 665 (p + w * i + c) = r.getD c 0 := sl_getD g.1 (by omega)
    have hsu := my_vs_succ (c := c) (cols := cols) (w := w) (lk := lk) hr
    have hvl : (sm_some (my_vs c cols w lk R i)).length ≤ R.length := by
      refine Nat.le_trans (List.length_filter_le _ _) ?_
      unfold my_vs sm_at
      rw [List.length_map]
      exact Nat.le_trans (List.length_filter_le _ _) (by rw [List.length_take]; omega)
    obtain ⟨s8, s9, s10, s11, s0⟩ := id hs
    have nxt : ∀ (x8 x9 x10 x13 x14 : Int32) (x11 : Int64), my_fs k (my_vs c cols w lk R (i + 1)) x8 x9 x10 x11 x13 x14 → wRun (d + 1, 0, 0) mX8_folded 234 (my_fl k p R.length w c lk cols [some (.int x8), some (.int x9), some (.int x10), some (.long x11), none, some (.int x13), some (.int x14), some (.int (nI i)), none, none, none, none, none]) [] z M L (wQi K) := fun y8 y9 y10 y13 y14 y11 hs' => by
      refine fX8_folded_234 ?_
      rw [nI_1]
      exact my_folded_21 h hK m (i + 1) y8 y9 y10 y13 y14 y11 (by omega) hs'
    have c60 : my_sel cols w lk r = true → wRun (d + 1, 0, 0) mX8_folded 60 (my_fl k p R.length w c lk cols [some (.int x8), some (.int x9), some (.int x10), some (.long x11), none, some (.int x13), some (.int x14), some (.int (nI i)), some (.int (nI (p + w * i))), none, none, none, none]) [] z M L (wQi K) := fun hsel => by
      rw [hsel] at hsu
      have hsu : my_vs c cols w lk R (i + 1) = my_vs c cols w lk R i ++ [r.getD c 0] := hsu
      refine fX8_folded_60 ?_
      rw [nI_add, nI_clamp (show p + w * i + c < 2 ^ 31 by omega), ev]
      generalize r.getD c 0 = v at hsu
      have e8 : x8 + 1 = nI (my_vs c cols w lk R (i + 1)).length := by rw [s8, nI_1, hsu, List.length_append]; rfl
      refine ⟨vp_in_nI (by omega) (by omega), fun ev => nxt _ _ _ _ _ _ ?_, fun ev => ?_⟩
      · have es : sm_some (my_vs c cols w lk R (i + 1)) = sm_some (my_vs c cols w lk R i) := by rw [hsu, sm_some_snoc, if_pos ev]
        refine ⟨e8, ?_⟩
        rw [es]
        exact ⟨s9, s10, s11, s0⟩
      have es : sm_some (my_vs c cols w lk R (i + 1)) = sm_some (my_vs c cols w lk R i) ++ [v] := by rw [hsu, sm_some_snoc, if_neg ev]
      have c125 : ∀ y13 y14 : Int32, y13 = sm_ext sm_lo (sm_some (my_vs c cols w lk R i) ++ [v]) → y14 = sm_ext sm_hi (sm_some (my_vs c cols w lk R i) ++ [v]) → wRun (d + 1, 0, 0) mX8_folded 125 (my_fl k p R.length w c lk cols [some (.int (x8 + 1)), some (.int x9), some (.int x10), some (.long x11), none, some (.int y13), none, some (.int (nI i)), none, some (.int v), none, none, none]) [.int y14] z M L (wQi K) := fun y13 y14 e13 e14 => by
        have done : ∀ y10 : Int32, (k = 5 → y10 = nI (sm_once (sm_some (my_vs c cols w lk R i) ++ [v])).length) → my_fs k (my_vs c cols w lk R (i + 1)) (x8 + 1) (x9 + 1) y10 (x11 + v.toInt64) y13 y14 := fun y10 h10 => by
          refine ⟨e8, ?_, ?_, fun _ => ?_, fun q => ?_⟩
          · rw [es, s9, nI_1, List.length_append]; rfl
          · rw [es]; exact h10
          · rw [es]
            refine ⟨?_, e13, e14⟩
            rw [my_lng, sm_ext_snoc]
            by_cases hn : sm_some (my_vs c cols w lk R i) = []
            · rw [if_pos hn, s0 hn]
              show (0 : Int32) + v = v
              exact Int32.zero_add v
            · rw [if_neg hn, (s11 hn).1]
          · rw [es] at q; simp at q
        refine fX8_folded_125 ?_
        have st : (if k = 5 ∧ v ∈ my_vs c cols w lk R 0 then (0 : Int32) else 1) = 1 := if_neg fun h => by
          have h := h.2
          unfold my_vs sm_at at h
          rw [List.take_zero] at h
          simp at h
        have lp := my_folded_144 (d := d) (z := z) (L := L) (v := v) (cols := cols) (x8 := x8 + 1) (x9 := x9 + 1) (x10 := x10) (x11 := x11 + v.toInt64) (x13 := y13) (x14 := y14) (Q := wQi K) h (show i ≤ R.length by omega) ?_ i 0 (by omega)
        · rw [st] at lp; exact lp
        · refine fX8_folded_219 ⟨fun q => fX8_folded_231 (nxt _ _ _ _ _ _ (done _ fun k5 => ?_)), fun q => fX8_folded_231 (nxt _ _ _ _ _ _ (done _ fun k5 => ?_))⟩
          · have hm : v ∈ my_vs c cols w lk R i := by
              refine Classical.byContradiction fun hn => ?_
              rw [if_neg fun h => hn h.2] at q
              exact absurd q (by decide)
            have hm' : v ∈ sm_once (sm_some (my_vs c cols w lk R i)) := by
              rw [sm_once_mem]
              unfold sm_some
              rw [List.mem_filter]
              exact ⟨hm, by simp [ev]⟩
            rw [sm_once_snoc]
            have : (if v ∈ sm_once (sm_some (my_vs c cols w lk R i)) then sm_once (sm_some (my_vs c cols w lk R i)) else sm_once (sm_some (my_vs c cols w lk R i)) ++ [v]) = sm_once (sm_some (my_vs c cols w lk R i)) := if_pos hm'
            rw [this, s10 k5, ak_n0, nI_add, Nat.add_zero]
          · have hm : v ∉ my_vs c cols w lk R i := fun hn => q (if_pos ⟨k5, hn⟩)
            have hm' : v ∉ sm_once (sm_some (my_vs c cols w lk R i)) := by
              rw [sm_once_mem]
              unfold sm_some
              rw [List.mem_filter]
              exact fun h => hm h.1
            rw [sm_once_snoc]
            have : (if v ∈ sm_once (sm_some (my_vs c cols w lk R i)) then sm_once (sm_some (my_vs c cols w lk R i)) else sm_once (sm_some (my_vs c cols w lk R i)) ++ [v]) = sm_once (sm_some (my_vs c cols w lk R i)) ++ [v] := if_neg hm'
            rw [this, s10 k5, nI_1, List.length_append]; rfl
      have c104 : ∀ y13 : Int32, y13 = sm_ext sm_lo (sm_some (my_vs c cols w lk R i) ++ [v]) → wRun (d + 1, 0, 0) mX8_folded 104 (my_fl k p R.length w c lk cols [some (.int (x8 + 1)), some (.int x9), some (.int x10), some (.long x11), none, none, some (.int x14), some (.int (nI i)), none, some (.int v), none, none, none]) [.int y13] z M L (wQi K) := fun y13 e13 => by
        refine fX8_folded_104 ⟨fun e0 => fX8_folded_118 (c125 _ _ e13 ?_), fun e0 => ⟨fun e => c125 _ _ e13 ?_, fun e => fX8_folded_118 (c125 _ _ e13 ?_)⟩⟩
        · have hn : sm_some (my_vs c cols w lk R i) = [] := by
            rw [s9] at e0
            exact List.eq_nil_of_length_eq_zero ((nI_eq (by omega) (by omega)).mp e0)
          rw [hn]; rfl
        · have hn : sm_some (my_vs c cols w lk R i) ≠ [] := fun e => e0 (by rw [s9, e]; rfl)
          rw [sm_ext_snoc, if_neg hn, ← (s11 hn).2.2, sm_hi_a e]
        · have hn : sm_some (my_vs c cols w lk R i) ≠ [] := fun e => e0 (by rw [s9, e]; rfl)
          rw [sm_ext_snoc, if_neg hn, ← (s11 hn).2.2, sm_hi_b e]
      refine ⟨fun e0 => fX8_folded_97 (c104 _ ?_), fun e0 => ⟨fun e => c104 _ ?_, fun e => fX8_folded_97 (c104 _ ?_)⟩⟩
      · have hn : sm_some (my_vs c cols w lk R i) = [] := by
          rw [s9] at e0
          exact List.eq_nil_of_length_eq_zero ((nI_eq (by omega) (by omega)).mp e0)
        rw [hn]; rfl
      · have hn : sm_some (my_vs c cols w lk R i) ≠ [] := fun e => e0 (by rw [s9, e]; rfl)
        rw [sm_ext_snoc, if_neg hn, ← (s11 hn).2.1, sm_lo_a e]
      · have hn : sm_some (my_vs c cols w lk R i) ≠ [] := fun e => e0 (by rw [s9, e]; rfl)
        rw [sm_ext_snoc, if_neg hn, ← (s11 hn).2.1, sm_lo_b e]
    refine fX8_folded_21 ?_
    rw [pk_mul, nI_add]
    refine ⟨fun q => absurd q (nI_ge (by omega) (by omega)), fun _ => ⟨fun e => c60 ?_, fun e => ?_⟩⟩
    · cases lk with
      | none => rfl
      | some q0 =>
        have h1 := nI_pos (show q0.1 < 2 ^ 31 by have := (hlk q0 rfl).2.2; omega)
        have e : nI q0.1 = -1 := e
        rw [e] at h1
        exact absurd (by decide) h1
    · cases lk with
      | none => exact absurd rfl e
      | some q0 =>
        have hq0 := hlk q0 rfl
        refine my_alike hq0.1 g.1 hq0.2.1 g.2.1 hq0.2.2 (by omega) ?_
        cases hlike : my_like cols w q0.2 r with
        | true => exact ⟨fun q => absurd q (by decide), fun _ => c60 hlike⟩
        | false =>
          refine ⟨fun _ => nxt _ _ _ _ _ _ ?_, fun q => absurd rfl q⟩
          rw [hsu]
          have : (if my_sel cols w (some q0) r = true then [r.getD c 0] else []) = [] := if_neg (by simp [my_sel, hlike])
          rw [this, List.append_nil]; exact hs
theorem my_folded {k p w c : Nat} {lk : my_lk} {cols : Int32} {R : List ay_Row} {K : Int32 → wd_Z → wd_M → wd_L → Prop} (hd : 1 ≤ d) (h : my_fh M k p w c lk R) (hK : K (sm_fold k (sm_at c (R.filter (my_sel cols w lk)))) z M L) :
    wRunI (d, 0, 0) mX8_folded [.ref 650, .int (nI k), .int (nI p), .int (nI R.length), .int (nI w), .int (nI c), .int (my_lkI lk), .int cols] z M L K := by
  obtain ⟨d, rfl, -⟩ := ak_deep hd
  refine fX8_folded_e (fX8_folded_6 (fX8_folded_12 (fX8_folded_18 (my_folded_21 h ?_ R.length 0 _ _ _ _ _ _ (by omega) ?_))))
  · unfold my_vs
    rw [List.take_length]; exact hK
  · exact ⟨rfl, rfl, fun _ => rfl, fun q => absurd rfl q, fun _ => rfl⟩
end MY
