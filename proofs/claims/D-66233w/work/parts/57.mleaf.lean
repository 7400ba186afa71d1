/-! CONTRACTS of ApplyFreeModel: leaves -/
theorem my_bit01 (x : Int32) : x &&& 1 = 0 ∨ x &&& 1 = 1 := by
  have h : (x &&& 1).toBitVec = 0#32 ∨ (x &&& 1).toBitVec = 1#32 := by
    have e : (x &&& 1).toBitVec = x.toBitVec &&& 1#32 := rfl
    rw [e]
    have : (x.toBitVec &&& 1#32).toNat = x.toBitVec.toNat % 2 := by
      rw [BitVec.toNat_and]
      exact Nat.and_one_is_mod _
    rcases Nat.mod_two_eq_zero_or_one x.toBitVec.toNat with q | q
    · exact Or.inl (BitVec.eq_of_toNat_eq (by rw [this, q]; rfl))
    · exact Or.inr (BitVec.eq_of_toNat_eq (by rw [this, q]; rfl))
  rcases h with h | h
  · exact Or.inl (Int32.toBitVec_inj.mp h)
  · exact Or.inr (Int32.toBitVec_inj.mp h)
theorem my_bit0 {num : Int32} {c : Nat} : ((num >>> (nI c &&& 31)) &&& 1 = 0) ↔ sm_bit num c = false := by
  rw [← Bool.not_eq_true, ← sm_bit_iff]
  rcases my_bit01 (num >>> (nI c &&& 31)) with h | h <;> rw [h] <;> decide
def my_tr (v : Int32) : Int32 := if v = (-2147483648 : Int32) then 2 else v
def my_like (cols : Int32) (w : Nat) (a b : ay_Row) : Bool := (List.range w).all (fun c => !(sm_bit cols c) || a.getD c 0 == b.getD c 0)
theorem my_like_succ (cols : Int32) (w : Nat) (a b : ay_Row) : my_like cols (w + 1) a b = (my_like cols w a b && (!(sm_bit cols w) || a.getD w 0 == b.getD w 0)) := by
  unfold my_like
  rw [List.range_succ, List.all_append, List.all_cons, List.all_nil, Bool.and_true]
theorem my_like_no {cols : Int32} {a b : ay_Row} {c : Nat} (h : my_like cols c a b = false) : ∀ n, my_like cols (c + n) a b = false
  | 0 => h
  | n + 1 => by rw [← Nat.add_assoc, my_like_succ, my_like_no h n, Bool.false_and]
theorem my_like_iff {cols : Int32} {w : Nat} {a b : ay_Row} : my_like cols w a b = true ↔ ∀ c, c < w → sm_bit cols c = true → a.getD c 0 = b.getD c 0 := by
  unfold my_like
  rw [List.all_eq_true]
  constructor
  · intro h c hc hb
    have := h c (List.mem_range.mpr hc)
    rw [hb] at this
    simpa using this
  · intro h c hc
    have := h c (List.mem_range.mp hc)
    cases hb : sm_bit cols c with
    | false => rfl
    | true => rw [this hb]; simp
theorem my_bit255 : ∀ c, c < 8 → sm_bit 255 c = true := by decide
theorem my_like_all {w : Nat} {a b : ay_Row} (hw : w ≤ 8) (ha : a.length = w) (hb : b.length = w) : my_like 255 w a b = true ↔ a = b := by
  rw [my_like_iff]
  constructor
  · intro h
    refine List.ext_getElem (by omega) fun i h1 h2 => ?_
    have := h i (by omega) (my_bit255 i (by omega))
    rwa [List.getD_eq_getElem?_getD, List.getD_eq_getElem?_getD, List.getElem?_eq_getElem h1, List.getElem?_eq_getElem h2] at this
  · rintro rfl _ _ _; rfl
/-- alike in some columns -/
theorem my_like_pick {cols : Int32} {w : Nat} {a b : ay_Row} (hw : w ≤ 8) (hc : ∀ c, c < 8 → sm_bit cols c = true → c < w) : my_like cols w a b = true ↔ sm_pick (sm_ks cols) a = sm_pick (sm_ks cols) b := by
  rw [my_like_iff]
  unfold sm_pick sm_ks
  rw [List.map_inj_left]
  constructor
  · intro h c hm
    rw [List.mem_filter, List.mem_range] at hm
    exact h c (hc c hm.1 hm.2) hm.2
  · intro h c h1 h2
    exact h c (List.mem_filter.mpr ⟨List.mem_range.mpr (by omega), h2⟩)
section MY
variable {d : Nat} {z : wd_Z} {L : wd_L} {M : wd_M}
theorem my_truthOf {x : Int32} {K : Int32 → wd_Z → wd_M → wd_L → Prop} (hK : K (if x = 0 then 0 else 1) z M L) : wRunI (d, 0, 0) mX8_truthOf [.int x] z M L K := by
  refine fX8_truthOf_e ⟨fun h => ?_, fun h => ?_⟩
  · rw [if_pos h] at hK; exact wQi_i hK
  · rw [if_neg h] at hK; exact wQi_i hK
theorem my_T1 {v : Int32} {K : Int32 → wd_Z → wd_M → wd_L → Prop} (hK : K v z M L) (hv : v = 1) : wRunI (d, 0, 0) mX8_truthOf [.int 1] z M L (fun v z M L => wQi K (some (.int v)) (wd z M L)) :=
  my_truthOf (by subst hv; exact wQi_i hK)
theorem my_T0 {v : Int32} {K : Int32 → wd_Z → wd_M → wd_L → Prop} (hK : K v z M L) (hv : v = 0) : wRunI (d, 0, 0) mX8_truthOf [.int 0] z M L (fun v z M L => wQi K (some (.int v)) (wd z M L)) :=
  my_truthOf (by subst hv; exact wQi_i hK)
theorem my_compared {op : Nat} {a b : Int32} {K : Int32 → wd_Z → wd_M → wd_L → Prop} (hd : 1 ≤ d) (hop : op ≤ 4) (hK : K (my_tr (sm_cmp op a b)) z M L) : wRunI (d, 0, 0) mX8_compared [.int (nI op), .int a, .int b] z M L K := by
  obtain ⟨d, rfl, -⟩ := ak_deep hd
  have o5 : op = 0 ∨ op = 1 ∨ op = 2 ∨ op = 3 ∨ op = 4 := by omega
  have n0 : ¬ ((0 : Int32) = (-2147483648 : Int32)) := by decide
  have n1 : ¬ ((1 : Int32) = (-2147483648 : Int32)) := by decide
  refine fX8_compared_e ⟨fun h4 => ⟨fun h => ?_, fun h => ?_⟩, fun h4 => ⟨fun ha => ?_, fun ha => ⟨fun hb => ?_, fun hb => ⟨fun h0 => ⟨fun h => ?_, fun h => ?_⟩, fun h0 => ⟨fun h1 => ⟨fun h => ?_, fun h => ?_⟩, fun h1 => ⟨fun h2 => ⟨fun h => ?_, fun h => ?_⟩, fun h2 => ⟨fun h => ?_, fun h => ?_⟩⟩⟩⟩⟩⟩⟩
  · have : op = 4 := by rcases o5 with rfl | rfl | rfl | rfl | rfl <;> first | rfl | (exact absurd h4 (by decide))
    subst this
    exact my_T1 hK (by simp [my_tr, sm_cmp, h, n1])
  · have : op = 4 := by rcases o5 with rfl | rfl | rfl | rfl | rfl <;> first | rfl | (exact absurd h4 (by decide))
    subst this
    exact my_T0 hK (by simp [my_tr, sm_cmp, h, n0])
  · have : op < 4 := by rcases o5 with rfl | rfl | rfl | rfl | rfl <;> first | omega | (exact absurd rfl h4)
    have e : my_tr (sm_cmp op a b) = 2 := by simp [my_tr, sm_cmp, ha, this]
    rw [e] at hK; exact wQi_i hK
  · have : op < 4 := by rcases o5 with rfl | rfl | rfl | rfl | rfl <;> first | omega | (exact absurd rfl h4)
    have e : my_tr (sm_cmp op a b) = 2 := by simp [my_tr, sm_cmp, hb, this]
    rw [e] at hK; exact wQi_i hK
  · have : op = 0 := by rcases o5 with rfl | rfl | rfl | rfl | rfl <;> first | rfl | (exact absurd h0 (by decide))
    subst this
    exact my_T1 hK (by simp only [my_tr, sm_cmp, ha, hb]; simp [h, n1])
  · have : op = 0 := by rcases o5 with rfl | rfl | rfl | rfl | rfl <;> first | rfl | (exact absurd h0 (by decide))
    subst this
    exact my_T0 hK (by simp only [my_tr, sm_cmp, ha, hb]; simp [h, n0])
  · have : op = 1 := by rcases o5 with rfl | rfl | rfl | rfl | rfl <;> first | rfl | (exact absurd h1 (by decide))
    subst this
    exact my_T0 hK (by simp only [my_tr, sm_cmp, ha, hb]; simp [h, n0])
  · have : op = 1 := by rcases o5 with rfl | rfl | rfl | rfl | rfl <;> first | rfl | (exact absurd h1 (by decide))
    subst this
    exact my_T1 hK (by simp only [my_tr, sm_cmp, ha, hb]; simp [h, n1])
  · have : op = 2 := by rcases o5 with rfl | rfl | rfl | rfl | rfl <;> first | rfl | (exact absurd h2 (by decide))
    subst this
    have h' : ¬ a < b := by rw [sm_i_lt]; rw [sm_i_le] at h; omega
    exact my_T0 hK (by simp only [my_tr, sm_cmp, ha, hb]; simp [h', n0])
  · have : op = 2 := by rcases o5 with rfl | rfl | rfl | rfl | rfl <;> first | rfl | (exact absurd h2 (by decide))
    subst this
    have h' : a < b := by rw [sm_i_lt]; rw [sm_i_le] at h; omega
    exact my_T1 hK (by simp only [my_tr, sm_cmp, ha, hb]; simp [h', n1])
  · have : op = 3 := by rcases o5 with rfl | rfl | rfl | rfl | rfl <;> first | rfl | (exact absurd rfl h0) | (exact absurd rfl h1) | (exact absurd rfl h2) | (exact absurd rfl h4)
    subst this
    have h' : ¬ a ≤ b := by rw [sm_i_le]; rw [sm_i_lt] at h; omega
    exact my_T0 hK (by simp only [my_tr, sm_cmp, ha, hb]; simp [h', n0])
  · have : op = 3 := by rcases o5 with rfl | rfl | rfl | rfl | rfl <;> first | rfl | (exact absurd rfl h0) | (exact absurd rfl h1) | (exact absurd rfl h2) | (exact absurd rfl h4)
    subst this
    have h' : a ≤ b := by rw [sm_i_le]; rw [sm_i_lt] at h; omega
    exact my_T1 hK (by simp only [my_tr, sm_cmp, ha, hb]; simp [h', n1])
theorem my_alike_6 {pa pb w : Nat} {cols : Int32} {a b : ay_Row} {K : Int32 → wd_Z → wd_M → wd_L → Prop} (ha : sl_at (M 665) pa a) (hb : sl_at (M 665) pb b) (hla : a.length = w) (hlb : b.length = w) (hpa : pa + w ≤ 600000) (hpb : pb + w ≤ 600000) (hK : K (if my_like cols w a b then 1 else 0) z M L) :
    ∀ n c, c + n = w → wRun (d, 0, 0) mX8_areAlike 6 [some (.ref 650), some (.int (nI pa)), some (.int (nI pb)), some (.int (nI w)), some (.int cols), some (.int (if my_like cols c a b then 1 else 0)), some (.int (nI c))] [] z M L (wQi K)
  | 0, c, hc => by
    have ec : c = w := by omega
    subst ec
    refine fX8_areAlike_6 ⟨fun _ => ?_, fun q => absurd (nI_le (Nat.le_refl _) (by omega)) q⟩
    cases h : my_like cols c a b
    · rw [h] at hK; exact am_gz0 (wQi_i hK)
    · rw [h] at hK; exact am_gz1 (wQi_i hK)
  | n + 1, c, hc => by
    have e0 : w = c + (n + 1) := by omega
    cases h : my_like cols c a b with
    | false =>
      have := my_like_no h (n + 1)
      rw [← e0] at this
      rw [this] at hK
      exact fX8_areAlike_6 ⟨fun q => absurd q (nI_ge (by omega) (by omega)), fun _ => ⟨fun _ => am_gz0 (wQi_i hK), fun q => absurd rfl q⟩⟩
    | true =>
      have eA : M 665 (pa + c) = a.getD c 0 := sl_getD ha (by omega)
      have eB : M 665 (pb + c) = b.getD c 0 := sl_getD hb (by omega)
      have hs := my_like_succ cols c a b
      rw [h, Bool.true_and] at hs
      have go := fun v (hv : (if my_like cols (c + 1) a b then (1 : Int32) else 0) = v) => hv ▸ my_alike_6 (cols := cols) ha hb hla hlb hpa hpb hK n (c + 1) (by omega)
      refine fX8_areAlike_6 ?_
      rw [my_bit0, nI_add, nI_add, nI_clamp (show pa + c < 2 ^ 31 by omega), nI_clamp (show pb + c < 2 ^ 31 by omega), eA, eB, nI_1]
      refine ⟨fun q => absurd q (nI_ge (by omega) (by omega)), fun _ => ⟨fun q => absurd q (by decide), fun _ => ⟨fun q => go 1 ?_, fun q => ⟨vp_in_nI (by omega) (by omega), vp_in_nI (by omega) (by omega), fun e => go 1 ?_, fun e => go 0 ?_⟩⟩⟩⟩
      · rw [hs, q]; rfl
      · rw [hs, e]; simp
      · have q' : sm_bit cols c = true := (Bool.not_eq_false _).mp q
        have e' : (a.getD c 0 == b.getD c 0) = false := beq_eq_false_iff_ne.mpr e
        rw [hs, q', e']; rfl
theorem my_alike {pa pb w : Nat} {cols : Int32} {a b : ay_Row} {K : Int32 → wd_Z → wd_M → wd_L → Prop} (ha : sl_at (M 665) pa a) (hb : sl_at (M 665) pb b) (hla : a.length = w) (hlb : b.length = w) (hpa : pa + w ≤ 600000) (hpb : pb + w ≤ 600000) (hK : K (if my_like cols w a b then 1 else 0) z M L) :
    wRunI (d, 0, 0) mX8_areAlike [.ref 650, .int (nI pa), .int (nI pb), .int (nI w), .int cols] z M L K :=
  fX8_areAlike_e (my_alike_6 ha hb hla hlb hpa hpb hK w 0 (by omega))
theorem my_before_3 {pa pb w : Nat} {a b : ay_Row} {K : Int32 → wd_Z → wd_M → wd_L → Prop} (ha : sl_at (M 665) pa a) (hb : sl_at (M 665) pb b) (hla : a.length = w) (hlb : b.length = w) (hpa : pa + w ≤ 600000) (hpb : pb + w ≤ 600000) (hK : K (if sm_le b a then 0 else 1) z M L) :
    ∀ n c, c + n + 1 = w → a.take c = b.take c → wRun (d, 0, 0) mX8_isBefore 3 [some (.ref 650), some (.int (nI pa)), some (.int (nI pb)), some (.int (nI w)), some (.int (nI c))] [] z M L (wQi K) := by
  intro n
  induction n with
  | zero =>
    intro c hc he
    have eA : M 665 (pa + c) = a[c] := sl_get ha (by omega)
    have eB : M 665 (pb + c) = b[c] := sl_get hb (by omega)
    have hdb : b.drop c = [b[c]] := by rw [List.drop_eq_getElem_cons (show c < b.length by omega), List.drop_of_length_le (by omega)]
    have hda : a.drop c = [a[c]] := by rw [List.drop_eq_getElem_cons (show c < a.length by omega), List.drop_of_length_le (by omega)]
    have hle : sm_le b a = decide (b[c] ≤ a[c]) := by
      rw [sm_le_pre he.symm, hdb, hda]
      simp only [sm_le, Bool.and_true]
      rw [← Bool.decide_or]
      refine decide_eq_decide.mpr ?_
      rw [sm_i_lt, sm_i_le, sm_i_eq]; omega
    rw [hle] at hK
    refine fX8_isBefore_3 ?_
    have ew : nI w - 1 = nI c := by rw [← hc]; exact nI_pred c
    rw [ew, nI_add, nI_add, nI_clamp (show pa + c < 2 ^ 31 by omega), nI_clamp (show pb + c < 2 ^ 31 by omega), eA, eB]
    refine ⟨fun _ => ⟨vp_in_nI (by omega) (by omega), vp_in_nI (by omega) (by omega), fun q => ?_, fun q => ?_⟩, fun q => absurd (nI_le (Nat.le_refl _) (by omega)) q⟩
    · rw [if_pos (by simpa using q)] at hK; exact am_gz0 (wQi_i hK)
    · rw [if_neg (by simpa using q)] at hK; exact am_gz1 (wQi_i hK)
  | succ n ih =>
    intro c hc he
    have eA : M 665 (pa + c) = a[c] := sl_get ha (by omega)
    have eB : M 665 (pb + c) = b[c] := sl_get hb (by omega)
    refine fX8_isBefore_3 ?_
    have ew : nI w - 1 = nI (c + n + 1) := by rw [← hc]; exact nI_pred _
    rw [ew, nI_add, nI_add, nI_clamp (show pa + c < 2 ^ 31 by omega), nI_clamp (show pb + c < 2 ^ 31 by omega), eA, eB, nI_1]
    refine ⟨fun q => absurd q (nI_ge (by omega) (by omega)), fun _ => ⟨vp_in_nI (by omega) (by omega), vp_in_nI (by omega) (by omega), fun e => ?_, fun e => ⟨vp_in_nI (by omega) (by omega), vp_in_nI (by omega) (by omega), ?_⟩⟩⟩
    · refine ih (c + 1) (by omega) ?_
      rw [sl_take (List.getElem?_eq_getElem (show c < a.length by omega)), sl_take (List.getElem?_eq_getElem (show c < b.length by omega)), he, e]
    · have hle : sm_le b a = decide (b[c] < a[c]) := by
        rw [sm_le_pre he.symm, List.drop_eq_getElem_cons (show c < b.length by omega), List.drop_eq_getElem_cons (show c < a.length by omega)]
        exact sm_le_head fun h => e h.symm
      rw [hle] at hK
      refine ⟨fun q => ?_, fun q => ?_⟩
      · rw [if_pos (by rw [decide_eq_true_eq, sm_i_lt]; rw [sm_i_le] at q; rw [sm_i_eq] at e; omega)] at hK
        exact am_gz0 (wQi_i hK)
      · rw [if_neg (by rw [decide_eq_true_eq, sm_i_lt]; rw [sm_i_le] at q; omega)] at hK
        exact am_gz1 (wQi_i hK)
theorem my_before {pa pb w : Nat} {a b : ay_Row} {K : Int32 → wd_Z → wd_M → wd_L → Prop} (ha : sl_at (M 665) pa a) (hb : sl_at (M 665) pb b) (hla : a.length = w) (hlb : b.length = w) (hw : 1 ≤ w) (hpa : pa + w ≤ 600000) (hpb : pb + w ≤ 600000) (hK : K (if sm_le b a then 0 else 1) z M L) :
    wRunI (d, 0, 0) mX8_isBefore [.ref 650, .int (nI pa), .int (nI pb), .int (nI w)] z M L K :=
  fX8_isBefore_e (my_before_3 ha hb hla hlb hpa hpb hK (w - 1) 0 (by omega) rfl)
theorem my_copy {f t n : Nat} {K : wd_Z → wd_M → wd_L → Prop} (hd : 1 ≤ d) (hf : f + n ≤ 600000) (ht : t + n ≤ 600000) (hK : K z (am_copy M 665 665 f t n) L) : wRunV (d, 0, 0) mX8_copy [.ref 650, .int (nI f), .int (nI t), .int (nI n)] z M L K := by
  obtain ⟨d, rfl, -⟩ := ak_deep hd
  refine fX8_copy_e ?_
  rw [nI_clamp (show f < 2 ^ 31 by omega), nI_clamp (show t < 2 ^ 31 by omega), nI_clamp (show n < 2 ^ 31 by omega)]
  exact ⟨nI_pos (by omega), nI_pos (by omega), nI_pos (by omega), hf, ht, wQv_i hK⟩
theorem my_settle {f t n w : Nat} {K : Int32 → wd_Z → wd_M → wd_L → Prop} (hd : 2 ≤ d) (hf : f + n * w ≤ 600000) (ht : t + n * w ≤ 600000) (hK : K (nI n) z (am_up2 (am_copy M 665 665 f t (n * w)) 650 19 (nI (t + n * w))) L) : wRunI (d, 0, 0) mX8_settle [.ref 650, .int (nI f), .int (nI t), .int (nI n), .int (nI w)] z M L K := by
  obtain ⟨d, rfl, hd'⟩ := ak_deep hd
  refine fX8_settle_e ?_
  rw [pk_mul]
  refine my_copy hd' hf ht ?_
  rw [nI_add]
  exact wQi_i hK
theorem my_enter {dp p : Nat} {K : wd_Z → wd_M → wd_L → Prop} (h : M 650 21 = nI dp) (hdp : dp < 130) (hK : K z (am_up2 (am_up2 M 666 dp (nI p)) 650 21 (nI (dp + 1))) L) : wRunV (d, 0, 0) mX8_enter [.ref 650, .int (nI p)] z M L K := by
  refine fX8_enter_e ?_
  rw [h, nI_clamp (by omega), ak_up_cell (by omega), h, nI_1]
  exact ⟨vp_in_nI hdp (by omega), wQv_i hK⟩
/-- two rows change places -/
theorem my_exch_3 {pa pb w : Nat} {M0 : wd_M} {K : wd_Z → wd_M → wd_L → Prop} (hab : pa = pb ∨ pa + w ≤ pb ∨ pb + w ≤ pa) (hpa : pa + w ≤ 600000) (hpb : pb + w ≤ 600000)
    (hK : ∀ M', (∀ c, c ≠ 665 → M' c = M0 c) → (∀ i, i < w → M' 665 (pa + i) = M0 665 (pb + i) ∧ M' 665 (pb + i) = M0 665 (pa + i)) → (∀ i, (i < pa ∨ pa + w ≤ i) → (i < pb ∨ pb + w ≤ i) → M' 665 i = M0 665 i) → K z M' L) :
    ∀ n c (M : wd_M), c + n = w → (∀ c, c ≠ 665 → M c = M0 c) → (∀ i, i < c → M 665 (pa + i) = M0 665 (pb + i) ∧ M 665 (pb + i) = M0 665 (pa + i)) → (∀ i, (i < pa ∨ pa + c ≤ i) → (i < pb ∨ pb + c ≤ i) → M 665 i = M0 665 i) → wRun (d, 0, 0) mX8_exchange 3 [some (.ref 650), some (.int (nI pa)), some (.int (nI pb)), some (.int (nI w)), some (.int (nI c)), none] [] z M L (wQv K)
  | 0, c, M, hc, h1, h2, h3 => by
    have ec : c = w := by omega
    subst ec
    exact fX8_exchange_3 ⟨fun _ => wQv_i (hK M h1 h2 h3), fun q => absurd (nI_le (Nat.le_refl _) (by omega)) q⟩
  | n + 1, c, M, hc, h1, h2, h3 => by
    refine fX8_exchange_3 ?_
    rw [nI_add, nI_add, nI_clamp (show pa + c < 2 ^ 31 by omega), nI_clamp (show pb + c < 2 ^ 31 by omega), nI_1]
    have iA := vp_in_nI (show pa + c < 600000 by omega) (by omega)
    have iB := vp_in_nI (show pb + c < 600000 by omega) (by omega)
    have eA := h3 (pa + c) (by omega) (by omega)
    have eB := h3 (pb + c) (by omega) (by omega)
    refine ⟨fun q => absurd q (nI_ge (by omega) (by omega)), fun _ => ⟨iA, iB, iA, iB, ?_⟩⟩
    refine my_exch_3 hab hpa hpb hK n (c + 1) _ (by omega) (fun k hk => by rw [ak_up_cell hk, ak_up_cell hk]; exact h1 k hk) (fun i hi => ?_) (fun i g1 g2 => ?_)
    · by_cases e : i = c
      · subst e
        refine ⟨?_, by rw [ak_up_same, eA]⟩
        by_cases q : pa = pb
        · subst q; rw [ak_up_same]; exact eA
        · rw [ak_up_ne (by omega), ak_up_same, eB]
      · have := h2 i (by omega)
        rw [ak_up_ne (by omega), ak_up_ne (by omega), ak_up_ne (by omega), ak_up_ne (by omega)]
        exact this
    · rw [ak_up_ne (by omega), ak_up_ne (by omega)]
      exact h3 i (by omega) (by omega)
theorem my_exch {pa pb w : Nat} {K : wd_Z → wd_M → wd_L → Prop} (hab : pa = pb ∨ pa + w ≤ pb ∨ pb + w ≤ pa) (hpa : pa + w ≤ 600000) (hpb : pb + w ≤ 600000)
    (hK : ∀ M', (∀ c, c ≠ 665 → M' c = M c) → (∀ i, i < w → M' 665 (pa + i) = M 665 (pb + i) ∧ M' 665 (pb + i) = M 665 (pa + i)) → (∀ i, (i < pa ∨ pa + w ≤ i) → (i < pb ∨ pb + w ≤ i) → M' 665 i = M 665 i) → K z M' L) :
    wRunV (d, 0, 0) mX8_exchange [.ref 650, .int (nI pa), .int (nI pb), .int (nI w)] z M L K :=
  fX8_exchange_e (my_exch_3 hab hpa hpb hK w 0 M (by omega) (fun _ _ => rfl) (fun i hi => by omega) (fun _ _ _ => rfl))
end MY
