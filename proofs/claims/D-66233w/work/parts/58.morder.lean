/-! CONTRACTS of ApplyFreeModel: rows on the pile, order -/
def my_A (M : wd_M) (p w : Nat) (R : List ay_Row) : Prop := sl_W w R ∧ sl_at (M 665) p R.flatten
theorem my_lt {w i n : Nat} (h : i < n) : w * i + w ≤ w * n := by
  have : w * (i + 1) ≤ w * n := Nat.mul_le_mul_left w h
  rwa [Nat.mul_succ] at this
theorem my_A_row {M : wd_M} {p w i : Nat} {R : List ay_Row} {r : ay_Row} (h : my_A M p w R) (hi : R[i]? = some r) : sl_at (M 665) (p + w * i) r ∧ r.length = w ∧ w * i + w ≤ w * R.length := by
  refine ⟨?_, sl_W_at h.1 hi, my_lt (List.getElem?_eq_some_iff.mp hi).1⟩
  have := sl_fget h.2 h.1 hi
  rwa [Nat.mul_comm] at this
theorem my_A_of {M : wd_M} {p w : Nat} {R : List ay_Row} (hw : sl_W w R) (h : ∀ i r, R[i]? = some r → sl_at (M 665) (p + w * i) r) : my_A M p w R :=
  ⟨hw, sl_fof hw fun i r hi => by have := h i r hi; rwa [Nat.mul_comm] at this⟩
theorem my_A_fr {M M' : wd_M} {p w : Nat} {R : List ay_Row} (h : my_A M p w R) (e : ∀ i, p ≤ i → i < p + w * R.length → M' 665 i = M 665 i) : my_A M' p w R :=
  ⟨h.1, sl_congr h.2 fun i hi => e _ (by omega) (by rw [sl_flen h.1, Nat.mul_comm] at hi; omega)⟩
theorem my_A_nil {M : wd_M} {p w : Nat} : my_A M p w [] := ⟨sl_W_nil, by simpa using sl_nil⟩
theorem my_A_app {M : wd_M} {p w : Nat} {A B : List ay_Row} : my_A M p w (A ++ B) ↔ my_A M p w A ∧ my_A M (p + w * A.length) w B := by
  unfold my_A
  rw [sl_W_app, List.flatten_append, sl_app]
  constructor
  · rintro ⟨⟨h1, h2⟩, h3, h4⟩
    rw [sl_flen h1, Nat.mul_comm] at h4
    exact ⟨⟨h1, h3⟩, h2, h4⟩
  · rintro ⟨⟨h1, h3⟩, h2, h4⟩
    refine ⟨⟨h1, h2⟩, h3, ?_⟩
    rw [sl_flen h1, Nat.mul_comm]; exact h4
theorem my_A_one {M : wd_M} {p w : Nat} {r : ay_Row} : my_A M p w [r] ↔ r.length = w ∧ sl_at (M 665) p r := by
  unfold my_A
  rw [sl_W_cons, List.flatten_cons, List.flatten_nil, List.append_nil]
  exact ⟨fun h => ⟨h.1.1, h.2⟩, fun h => ⟨⟨h.1, sl_W_nil⟩, h.2⟩⟩
theorem my_A_snoc {M : wd_M} {p w k : Nat} {A : List ay_Row} {r : ay_Row} (h : my_A M p w A) (hl : r.length = w) (hk : k = p + w * A.length) (hr : sl_at (M 665) k r) : my_A M p w (A ++ [r]) := by
  subst hk
  exact my_A_app.mpr ⟨h, my_A_one.mpr ⟨hl, hr⟩⟩
theorem my_A_take {M : wd_M} {p w n : Nat} {R : List ay_Row} (h : my_A M p w R) : my_A M p w (R.take n) := by
  rw [← List.take_append_drop n R, my_A_app] at h; exact h.1
def my_sw (R : List ay_Row) (i j : Nat) : List ay_Row := (R.set i (R.getD j [])).set j (R.getD i [])
theorem my_gd {R : List ay_Row} {i : Nat} (h : i < R.length) : R[i]? = some (R.getD i []) := by
  rw [List.getD_eq_getElem?_getD, List.getElem?_eq_getElem h]; rfl
theorem my_gd' {R : List ay_Row} {i : Nat} {r : ay_Row} (h : R[i]? = some r) : R.getD i [] = r := by
  rw [List.getD_eq_getElem?_getD, h]; rfl
theorem my_sw_len {R : List ay_Row} {i j : Nat} : (my_sw R i j).length = R.length := by simp [my_sw]
theorem my_sw_perm {R : List ay_Row} {i j : Nat} (hi : i < R.length) (hj : j < R.length) : (my_sw R i j).Perm R := by
  have h := List.set_set_perm (as := R) hi hj
  unfold my_sw
  rw [List.getD_eq_getElem?_getD, List.getD_eq_getElem?_getD, List.getElem?_eq_getElem hi, List.getElem?_eq_getElem hj]
  exact h
theorem my_sw_get {R : List ay_Row} {i j x : Nat} (hi : i < R.length) (hj : j < R.length) : (my_sw R i j).getD x [] = if x = j then R.getD i [] else if x = i then R.getD j [] else R.getD x [] := by
  unfold my_sw
  rw [List.getD_eq_getElem?_getD, List.getElem?_set]
  by_cases h1 : j = x
  · subst h1
    rw [if_pos rfl, if_pos rfl, if_pos (by rw [List.length_set]; exact hj)]; rfl
  · rw [if_neg h1, if_neg (fun e => h1 e.symm), List.getElem?_set]
    by_cases h2 : i = x
    · subst h2
      rw [if_pos rfl, if_pos rfl, if_pos hi]; rfl
    · rw [if_neg h2, if_neg (fun e => h2 e.symm), ← List.getD_eq_getElem?_getD]
section MY
variable {d : Nat} {z : wd_Z} {L : wd_L} {M : wd_M}
/-- two rows of a heap change places -/
theorem my_exrow {p w i j : Nat} {R : List ay_Row} {K : wd_Z → wd_M → wd_L → Prop} (hA : my_A M p w R) (hi : i < R.length) (hj : j < R.length) (hp : p + w * R.length ≤ 600000)
    (hK : ∀ M', my_A M' p w (my_sw R i j) → (∀ c, c ≠ 665 → M' c = M c) → (∀ x, x < p ∨ p + w * R.length ≤ x → M' 665 x = M 665 x) → K z M' L) :
    wRunV (d, 0, 0) mX8_exchange [.ref 650, .int (nI (p + w * i)), .int (nI (p + w * j)), .int (nI w)] z M L K := by
  have li := my_lt (w := w) hi
  have lj := my_lt (w := w) hj
  have apart : ∀ {a b : Nat}, a < b → w * a + w ≤ w * b := fun h => my_lt h
  refine my_exch ?_ (by omega) (by omega) fun M' h1 h2 h3 => hK M' ?_ h1 fun x hx => h3 x (by omega) (by omega)
  · rcases Nat.lt_trichotomy i j with h | h | h
    · have := apart h; exact Or.inr (Or.inl (by omega))
    · exact Or.inl (by rw [h])
    · have := apart h; exact Or.inr (Or.inr (by omega))
  have hW : sl_W w (my_sw R i j) := sl_W_sub hA.1 fun r hr => (my_sw_perm hi hj).mem_iff.mp hr
  refine my_A_of hW fun x r hx => ?_
  have hxl : x < R.length := by have := (List.getElem?_eq_some_iff.mp hx).1; rwa [my_sw_len] at this
  have er : r = if x = j then R.getD i [] else if x = i then R.getD j [] else R.getD x [] := by rw [← my_sw_get hi hj]; exact (my_gd' hx).symm
  have gi := my_A_row hA (my_gd hi)
  have gj := my_A_row hA (my_gd hj)
  have gx := my_A_row hA (my_gd hxl)
  by_cases e1 : x = j
  · rw [if_pos e1] at er
    subst e1
    rw [er]
    intro c v hv
    have hc : c < w := by have := (List.getElem?_eq_some_iff.mp hv).1; omega
    rw [(h2 c hc).2]; exact gi.1 c v hv
  · rw [if_neg e1] at er
    by_cases e2 : x = i
    · rw [if_pos e2] at er
      subst e2
      rw [er]
      intro c v hv
      have hc : c < w := by have := (List.getElem?_eq_some_iff.mp hv).1; omega
      rw [(h2 c hc).1]; exact gj.1 c v hv
    · rw [if_neg e2] at er
      rw [er]
      have q1 : w * x + w ≤ w * i ∨ w * i + w ≤ w * x := by
        rcases Nat.lt_or_gt_of_ne e2 with h | h
        · exact Or.inl (apart h)
        · exact Or.inr (apart h)
      have q2 : w * x + w ≤ w * j ∨ w * j + w ≤ w * x := by
        rcases Nat.lt_or_gt_of_ne e1 with h | h
        · exact Or.inl (apart h)
        · exact Or.inr (apart h)
      exact sl_congr gx.1 fun c hc => h3 _ (by omega) (by omega)
def my_ord (R : List ay_Row) (k : Nat) : Prop := ∀ i j, i < k → i < j → j < R.length → sm_le (R.getD i []) (R.getD j []) = true
theorem my_ord_take {R R0 : List ay_Row} {k : Nat} (h : my_ord R k) (hp : R.Perm R0) (hk : k ≤ R.length) : R.take k = (sm_srt R0).take k := by
  have e : R.take k ++ sm_srt (R.drop k) = sm_srt R0 := by
    refine sm_srt_uniq ?_ ?_
    · refine ((List.Perm.refl _).append (sm_srt_perm _)).trans ?_
      rw [List.take_append_drop]; exact hp
    · rw [List.pairwise_append]
      refine ⟨?_, sm_srt_pw _, fun a ha b hb => ?_⟩
      · rw [List.pairwise_iff_getElem]
        intro i j hi hj hij
        rw [List.length_take] at hi hj
        have := h i j (by omega) hij (by omega)
        rw [List.getElem_take, List.getElem_take]
        rwa [List.getD_eq_getElem?_getD, List.getD_eq_getElem?_getD, List.getElem?_eq_getElem (by omega), List.getElem?_eq_getElem (by omega)] at this
      · have hb := (sm_srt_perm _).mem_iff.mp hb
        obtain ⟨i, hi, rfl⟩ := List.mem_iff_getElem.mp ha
        obtain ⟨j, hj, rfl⟩ := List.mem_iff_getElem.mp hb
        rw [List.length_take] at hi
        rw [List.length_drop] at hj
        have := h i (k + j) (by omega) (by omega) (by omega)
        rw [List.getElem_take, List.getElem_drop]
        rwa [List.getD_eq_getElem?_getD, List.getD_eq_getElem?_getD, List.getElem?_eq_getElem (by omega), List.getElem?_eq_getElem (by omega)] at this
  rw [← e, List.take_append_of_le_length (by rw [List.length_take]; omega), List.take_take, Nat.min_self]
theorem my_ord_sw {R : List ay_Row} {k b : Nat} (h : my_ord R k) (hk : k ≤ b) (hb : b < R.length) (hm : ∀ j, k ≤ j → j < R.length → sm_le (R.getD b []) (R.getD j []) = true) : my_ord (my_sw R k b) (k + 1) := by
  intro i j hi hij hj
  rw [my_sw_len] at hj
  rw [my_sw_get (by omega) hb, my_sw_get (by omega) hb]
  by_cases e : i = k
  · subst e
    by_cases e2 : i = b
    · subst e2
      rw [if_pos rfl, if_neg (by omega), if_neg (by omega)]
      exact hm j (by omega) hj
    · rw [if_neg e2, if_pos rfl]
      split
      · exact hm i (by omega) (by omega)
      · rw [if_neg (by omega)]; exact hm j (by omega) hj
  · rw [if_neg (show ¬ i = b by omega), if_neg e]
    split
    · exact h i k (by omega) (by omega) (by omega)
    · split
      · exact h i b (by omega) (by omega) hb
      · exact h i j (by omega) hij hj
theorem my_order_26 {p w n k : Nat} {M0 : wd_M} {R0 R : List ay_Row} {K : wd_Z → wd_M → wd_L → Prop} (hw : 1 ≤ w) (hp : p + w * R.length ≤ 600000) (hn : n < 2 ^ 31 - 1) (hl : R.length < 2 ^ 31 - 1) (hk : k < R.length) (hA : my_A M p w R) (ho : my_ord R k)
    (go : ∀ M' R', my_A M' p w R' → R'.Perm R → my_ord R' (k + 1) → (∀ c, c ≠ 665 → M' c = M c) → (∀ x, x < p ∨ p + w * R.length ≤ x → M' 665 x = M 665 x) → wRun (d + 1, 0, 0) mX8_order 3 [some (.ref 650), some (.int (nI p)), some (.int (nI R.length)), some (.int (nI w)), some (.int (nI n)), some (.int (nI (k + 1))), none, none] [] z M' L (wQv K)) :
    ∀ m j b, j + m = R.length → k ≤ b → b < j → (∀ x, k ≤ x → x < j → sm_le (R.getD b []) (R.getD x []) = true) → wRun (d + 1, 0, 0) mX8_order 26 [some (.ref 650), some (.int (nI p)), some (.int (nI R.length)), some (.int (nI w)), some (.int (nI n)), some (.int (nI k)), some (.int (nI b)), some (.int (nI j))] [] z M L (wQv K)
  | 0, j, b, hj, hkb, hbj, hb => by
    have ej : j = R.length := by omega
    subst ej
    refine fX8_order_26 ?_
    rw [pk_mul, pk_mul, nI_add, nI_add, nI_1]
    refine ⟨fun _ => my_exrow hA hk hbj hp fun M' h1 h2 h3 => go M' _ h1 (my_sw_perm hk hbj) (my_ord_sw ho hkb hbj hb) h2 h3, fun q => absurd (nI_le (Nat.le_refl _) (by omega)) q⟩
  | m + 1, j, b, hj, hkb, hbj, hb => by
    have gj := my_A_row hA (my_gd (show j < R.length by omega))
    have gb := my_A_row hA (my_gd (show b < R.length by omega))
    refine fX8_order_26 ?_
    rw [pk_mul, pk_mul, pk_mul, nI_add, nI_add, nI_add, nI_1]
    refine ⟨fun q => absurd q (nI_ge (by omega) (by omega)), fun _ => my_before gj.1 gb.1 gj.2.1 gb.2.1 hw (by omega) (by omega) ?_⟩
    rw [nI_1]
    cases h : sm_le (R.getD b []) (R.getD j []) with
    | true =>
      refine ⟨fun _ => my_order_26 (M0 := M0) (R0 := R0) hw hp hn hl hk hA ho go m (j + 1) b (by omega) hkb (by omega) fun x h1 h2 => ?_, fun q => absurd rfl q⟩
      by_cases e : x = j
      · rw [e]; exact h
      · exact hb x h1 (by omega)
    | false =>
      refine ⟨fun q => absurd q (by decide), fun _ => my_order_26 (M0 := M0) (R0 := R0) hw hp hn hl hk hA ho go m (j + 1) j (by omega) (by omega) (by omega) fun x h1 h2 => ?_⟩
      have hjb : sm_le (R.getD j []) (R.getD b []) = true := by
        have := sm_le_total (R.getD b []) (R.getD j [])
        rw [h, Bool.false_or] at this; exact this
      by_cases e : x = j
      · rw [e]; exact sm_le_refl _
      · exact sm_le_trans _ _ _ hjb (hb x h1 (by omega))
theorem my_order_3 {p w n : Nat} {M0 : wd_M} {R0 : List ay_Row} {K : wd_Z → wd_M → wd_L → Prop} (hw : 1 ≤ w) (hp : p + w * R0.length ≤ 600000) (hn : n < 2 ^ 31 - 1) (hl : R0.length < 2 ^ 31 - 1)
    (hK : ∀ M' R', my_A M' p w R' → R'.Perm R0 → R'.take n = (sm_srt R0).take n → (∀ c, c ≠ 665 → M' c = M0 c) → (∀ x, x < p ∨ p + w * R0.length ≤ x → M' 665 x = M0 665 x) → K z M' L) :
    ∀ m k (M : wd_M) (R : List ay_Row), k + m = R0.length → k ≤ n → my_A M p w R → R.Perm R0 → my_ord R k → (∀ c, c ≠ 665 → M c = M0 c) → (∀ x, x < p ∨ p + w * R0.length ≤ x → M 665 x = M0 665 x) → wRun (d + 1, 0, 0) mX8_order 3 [some (.ref 650), some (.int (nI p)), some (.int (nI R0.length)), some (.int (nI w)), some (.int (nI n)), some (.int (nI k)), none, none] [] z M L (wQv K)
  | 0, k, M, R, hk, hkn, hA, hR, ho, h1, h2 => by
    have ek : k = R0.length := by omega
    have fin : K z M L := hK M R hA hR (by
      have := my_ord_take ho hR (by have := hR.length_eq; omega)
      have e1 : R.take k = R := List.take_of_length_le (by have := hR.length_eq; omega)
      have e2 : (sm_srt R0).take k = sm_srt R0 := List.take_of_length_le (by have := (sm_srt_perm R0).length_eq; omega)
      rw [e1, e2] at this
      rw [this]) h1 h2
    refine fX8_order_3 ⟨fun _ => wQv_i fin, fun _ => ⟨fun _ => wQv_i fin, fun q => absurd (nI_le (by omega) (by omega)) q⟩⟩
  | m + 1, k, M, R, hk, hkn, hA, hR, ho, h1, h2 => by
    have hlen := hR.length_eq
    refine fX8_order_3 ⟨fun q => ?_, fun q => ⟨fun q' => absurd q' (nI_ge (by omega) (by omega)), fun _ => ?_⟩⟩
    · have : k = n := by
        rw [nI_leI (by omega) (by omega)] at q; omega
      subst this
      exact wQv_i (hK M R hA hR (my_ord_take ho hR (by omega)) h1 h2)
    · have hkn' : k < n := by
        rw [nI_leI (by omega) (by omega)] at q; omega
      rw [nI_1, ← hlen]
      refine my_order_26 (M0 := M0) (R0 := R0) hw (by rw [hlen]; exact hp) hn (by omega) (by omega) hA ho (fun M' R' g1 g2 g3 g4 g5 => ?_) m (k + 1) k (by omega) (by omega) (by omega) (fun x h3 h4 => by
        have : x = k := by omega
        rw [this]; exact sm_le_refl _)
      rw [hlen] at g5 ⊢
      exact my_order_3 hw hp hn hl hK m (k + 1) M' R' (by omega) (by omega) g1 (g2.trans hR) g3 (fun c hc => by rw [g4 c hc, h1 c hc]) (fun x hx => by rw [g5 x hx, h2 x hx])
theorem my_order {p w n : Nat} {R : List ay_Row} {K : wd_Z → wd_M → wd_L → Prop} (hd : 1 ≤ d) (hw : 1 ≤ w) (hp : p + w * R.length ≤ 600000) (hn : n < 2 ^ 31 - 1) (hA : my_A M p w R)
    (hK : ∀ M' R', my_A M' p w R' → R'.Perm R → R'.take n = (sm_srt R).take n → (∀ c, c ≠ 665 → M' c = M c) → (∀ x, x < p ∨ p + w * R.length ≤ x → M' 665 x = M 665 x) → K z M' L) :
    wRunV (d, 0, 0) mX8_order [.ref 650, .int (nI p), .int (nI R.length), .int (nI w), .int (nI n)] z M L K := by
  obtain ⟨d, rfl, -⟩ := ak_deep hd
  have hl : R.length < 2 ^ 31 - 1 := by
    have : 1 * R.length ≤ w * R.length := Nat.mul_le_mul_right _ hw
    omega
  exact fX8_order_e (my_order_3 (M0 := M) hw hp hn hl hK R.length 0 M R (by omega) (by omega) hA (List.Perm.refl _) (fun i j hi => by omega) (fun _ _ => rfl) (fun _ _ => rfl))
end MY
