/-! SIZES AND COSTS of terms -/
def sm_cut (n : Nat) : Nat := if 1000000 < n then 1000000 else n
def sm_own (x : sm_T) (a b : Nat) : Nat :=
  if sm_k x = 15 then a * b
  else if sm_k x = 16 then (if sm_o x = 0 then a * b else if sm_o x = 1 then a * max 1 b else a)
  else if sm_k x = 17 then (if sm_o x = 0 then a + b else a)
  else if sm_k x = 19 then min a (sm_n x).toNatClampNeg
  else if sm_k x = 20 then max 1 a else a
def sm_inside (k : Nat) : Bool := k == 12 || k == 13 || k == 16
def sm_ownc (x : sm_T) (s sa ca cb : Nat) : Nat :=
  if sm_k x ≤ 1 then 1 else if sm_k x = 11 then s + 1
  else 1 + ca + (if sm_inside (sm_k x) then (sa + 1) * cb else if sm_k x = 15 then cb + s else cb)
def sm_p2 (o : Option Nat) (f : Nat → Nat) : Nat := match o with
  | none => 0
  | some b => f b
def sm_scs (x : sm_T) (tr : Nat → Nat) (sc : Nat → Nat × Nat) : Nat :=
  if sm_k x < 11 then 0 else if sm_k x = 11 then tr (sm_n x).toNatClampNeg else sm_cut (sm_own x (sc (sm_a x)).1 (sm_p2 x.2.2.2.1 fun b => (sc b).1))
def sm_scb (x : sm_T) (tr : Nat → Nat) (sc : Nat → Nat × Nat) : Nat × Nat :=
  (sm_scs x tr sc, sm_cut (sm_ownc x (sm_scs x tr sc) (sc (sm_a x)).1 (sc (sm_a x)).2 (sm_p2 x.2.2.2.1 fun b => (sc b).2)))
def sm_sc (T : Nat → sm_T) (tr : Nat → Nat) : Nat → Nat → Nat × Nat
  | 0, _ => (0, 0)
  | n + 1, t => sm_scb (T t) tr (sm_sc T tr n)
/-- size and cost of a term -/
def sm_Z (T : Nat → sm_T) (tr : Nat → Nat) (t : Nat) : Nat × Nat := sm_sc T tr (t + 1) t
theorem sm_p2_congr {o : Option Nat} {f g : Nat → Nat} (h : f (o.getD 0) = g (o.getD 0)) : sm_p2 o f = sm_p2 o g := by
  cases o with
  | none => rfl
  | some b => exact h
theorem sm_scb_congr {x : sm_T} {tr : Nat → Nat} {sc sc' : Nat → Nat × Nat} (ha : sc (sm_a x) = sc' (sm_a x)) (hb : sc (sm_b x) = sc' (sm_b x)) : sm_scb x tr sc = sm_scb x tr sc' := by
  have h1 : sm_p2 x.2.2.2.1 (fun b => (sc b).1) = sm_p2 x.2.2.2.1 (fun b => (sc' b).1) := sm_p2_congr (congrArg Prod.fst hb)
  have h2 : sm_p2 x.2.2.2.1 (fun b => (sc b).2) = sm_p2 x.2.2.2.1 (fun b => (sc' b).2) := sm_p2_congr (congrArg Prod.snd hb)
  unfold sm_scb sm_scs
  rw [ha, h1, h2]
theorem sm_scb_leaf {x : sm_T} {tr : Nat → Nat} {sc sc' : Nat → Nat × Nat} (h : sm_k x = 0 ∨ sm_k x = 1 ∨ sm_k x = 11) : sm_scb x tr sc = sm_scb x tr sc' := by
  rcases h with h | h | h <;> simp [sm_scb, sm_scs, sm_ownc, h]
theorem sm_sfuel {T : Nat → sm_T} {tc : Nat → Nat} {nt N : Nat} (tr : Nat → Nat) (w : sm_wf T tc nt N) : ∀ n m t, t < n → t < m → t < N → sm_sc T tr n t = sm_sc T tr m t
  | 0, _, _, h, _, _ => by omega
  | _ + 1, 0, _, _, h, _ => by omega
  | n + 1, m + 1, t, h1, h2, h3 => by
    show sm_scb _ _ _ = sm_scb _ _ _
    rcases sm_parts (w t h3).1 with ⟨ha, hb⟩ | hk
    · exact sm_scb_congr (sm_sfuel tr w n m _ (by omega) (by omega) (by omega)) (sm_sfuel tr w n m _ (by omega) (by omega) (by omega))
    · exact sm_scb_leaf hk
theorem sm_Z_eq {T : Nat → sm_T} {tc : Nat → Nat} {nt N t : Nat} {tr : Nat → Nat} (w : sm_wf T tc nt N) (ht : t < N) : sm_Z T tr t = sm_scb (T t) tr (sm_Z T tr) := by
  show sm_scb (T t) tr (sm_sc T tr t) = sm_scb _ _ _
  rcases sm_parts (w t ht).1 with ⟨ha, hb⟩ | hk
  · exact sm_scb_congr (sc' := sm_Z T tr) (sm_sfuel tr w t (sm_a (T t) + 1) _ ha (by omega) (by omega)) (sm_sfuel tr w t (sm_b (T t) + 1) _ hb (by omega) (by omega))
  · exact sm_scb_leaf hk
theorem sm_cut_le {n m : Nat} (h : sm_cut n ≤ m) (hm : m < 1000000) : sm_cut n = n := by
  unfold sm_cut at *
  split
  · rename_i q
    rw [if_pos q] at h
    omega
  · rfl
/-- what a cost of at most 3000 says, kind by kind: own cost and size without cuts -/
def sm_zs (T : Nat → sm_T) (tr : Nat → Nat) (t : Nat) : Nat := (sm_Z T tr t).1
def sm_zc (T : Nat → sm_T) (tr : Nat → Nat) (t : Nat) : Nat := (sm_Z T tr t).2
theorem sm_zc_eq {T : Nat → sm_T} {tc : Nat → Nat} {nt N t : Nat} {tr : Nat → Nat} (w : sm_wf T tc nt N) (ht : t < N) (hc : sm_zc T tr t ≤ 3000) :
    sm_zc T tr t = sm_ownc (T t) (sm_zs T tr t) (sm_zs T tr (sm_a (T t))) (sm_zc T tr (sm_a (T t))) (sm_p2 (T t).2.2.2.1 (sm_zc T tr)) := by
  unfold sm_zc sm_zs at *
  rw [sm_Z_eq w ht] at hc ⊢
  exact sm_cut_le hc (by omega)
theorem sm_zs_eq {T : Nat → sm_T} {tc : Nat → Nat} {nt N t : Nat} {tr : Nat → Nat} (w : sm_wf T tc nt N) (ht : t < N) : sm_zs T tr t = sm_scs (T t) tr (sm_Z T tr) := by
  unfold sm_zs
  rw [sm_Z_eq w ht]; rfl
theorem sm_ownc_pos (x : sm_T) (s sa ca cb : Nat) : 1 ≤ sm_ownc x s sa ca cb := by
  unfold sm_ownc
  split
  · omega
  · split <;> omega
theorem sm_zc_pos {T : Nat → sm_T} {tc : Nat → Nat} {nt N t : Nat} {tr : Nat → Nat} (w : sm_wf T tc nt N) (ht : t < N) : 1 ≤ sm_zc T tr t := by
  unfold sm_zc
  rw [sm_Z_eq w ht]
  show 1 ≤ sm_cut (sm_ownc _ _ _ _ _)
  have := sm_ownc_pos (T t) (sm_scs (T t) tr (sm_Z T tr)) (sm_Z T tr (sm_a (T t))).1 (sm_Z T tr (sm_a (T t))).2 (sm_p2 (T t).2.2.2.1 fun b => (sm_Z T tr b).2)
  unfold sm_cut
  split <;> omega
/-- two parts, side by side -/
theorem sm_zc2 {T : Nat → sm_T} {tc : Nat → Nat} {nt N t : Nat} {tr : Nat → Nat} (w : sm_wf T tc nt N) (ht : t < N) (hc : sm_zc T tr t ≤ 3000) (hb : (T t).2.2.2.1 = some (sm_b (T t))) (h1 : 1 < sm_k (T t)) (h2 : sm_k (T t) ≠ 11) (h3 : sm_inside (sm_k (T t)) = false) (h4 : sm_k (T t) ≠ 15) :
    sm_zc T tr t = 1 + sm_zc T tr (sm_a (T t)) + sm_zc T tr (sm_b (T t)) := by
  have := sm_zc_eq w ht hc
  rw [hb] at this
  unfold sm_ownc at this
  rw [if_neg (by omega), if_neg h2, if_neg (by rw [h3]; decide), if_neg h4] at this
  exact this
theorem sm_zc1 {T : Nat → sm_T} {tc : Nat → Nat} {nt N t : Nat} {tr : Nat → Nat} (w : sm_wf T tc nt N) (ht : t < N) (hc : sm_zc T tr t ≤ 3000) (hb : (T t).2.2.2.1 = none) (h1 : 1 < sm_k (T t)) (h2 : sm_k (T t) ≠ 11) (h3 : sm_inside (sm_k (T t)) = false) (h4 : sm_k (T t) ≠ 15) :
    sm_zc T tr t = 1 + sm_zc T tr (sm_a (T t)) := by
  have := sm_zc_eq w ht hc
  rw [hb] at this
  unfold sm_ownc at this
  rw [if_neg (by omega), if_neg h2, if_neg (by rw [h3]; decide), if_neg h4] at this
  exact this
theorem sm_zcI {T : Nat → sm_T} {tc : Nat → Nat} {nt N t : Nat} {tr : Nat → Nat} (w : sm_wf T tc nt N) (ht : t < N) (hc : sm_zc T tr t ≤ 3000) (hb : (T t).2.2.2.1 = some (sm_b (T t))) (h1 : 1 < sm_k (T t)) (h2 : sm_k (T t) ≠ 11) (h3 : sm_inside (sm_k (T t)) = true) :
    sm_zc T tr t = 1 + sm_zc T tr (sm_a (T t)) + (sm_zs T tr (sm_a (T t)) + 1) * sm_zc T tr (sm_b (T t)) := by
  have := sm_zc_eq w ht hc
  rw [hb] at this
  unfold sm_ownc at this
  rw [if_neg (by omega), if_neg h2, if_pos h3] at this
  exact this
theorem sm_zcP {T : Nat → sm_T} {tc : Nat → Nat} {nt N t : Nat} {tr : Nat → Nat} (w : sm_wf T tc nt N) (ht : t < N) (hc : sm_zc T tr t ≤ 3000) (hb : (T t).2.2.2.1 = some (sm_b (T t))) (hk : sm_k (T t) = 15) :
    sm_zc T tr t = 1 + sm_zc T tr (sm_a (T t)) + (sm_zc T tr (sm_b (T t)) + sm_zs T tr t) := by
  have := sm_zc_eq w ht hc
  rw [hb] at this
  unfold sm_ownc at this
  rw [if_neg (by omega), if_neg (by omega), if_neg (by rw [hk]; decide), if_pos hk] at this
  exact this
theorem sm_zcS {T : Nat → sm_T} {tc : Nat → Nat} {nt N t : Nat} {tr : Nat → Nat} (w : sm_wf T tc nt N) (ht : t < N) (hc : sm_zc T tr t ≤ 3000) (hk : sm_k (T t) = 11) :
    sm_zc T tr t = sm_zs T tr t + 1 := by
  have := sm_zc_eq w ht hc
  unfold sm_ownc at this
  rw [if_neg (by omega), if_pos hk] at this
  exact this
theorem sm_zsS {T : Nat → sm_T} {tc : Nat → Nat} {nt N t : Nat} {tr : Nat → Nat} (w : sm_wf T tc nt N) (ht : t < N) (hk : sm_k (T t) = 11) : sm_zs T tr t = tr (sm_n (T t)).toNatClampNeg := by
  rw [sm_zs_eq w ht]
  unfold sm_scs
  rw [if_neg (by omega), if_pos hk]
theorem sm_zsB {T : Nat → sm_T} {tc : Nat → Nat} {nt N t : Nat} {tr : Nat → Nat} (w : sm_wf T tc nt N) (ht : t < N) (hk : 11 < sm_k (T t)) : sm_zs T tr t = sm_cut (sm_own (T t) (sm_zs T tr (sm_a (T t))) (sm_p2 (T t).2.2.2.1 (sm_zs T tr))) := by
  rw [sm_zs_eq w ht]
  unfold sm_scs
  rw [if_neg (by omega), if_neg (by omega)]
  rfl
theorem sm_len_flat {α β : Type} {l : List α} {f : α → List β} {n : Nat} (h : ∀ x, x ∈ l → (f x).length ≤ n) : (l.flatMap f).length ≤ l.length * n := by
  induction l with
  | nil => simp
  | cons x l ih =>
    rw [List.flatMap_cons, List.length_append, List.length_cons, Nat.succ_mul]
    have h1 := h x (by simp)
    have h2 := ih fun y hy => h y (by simp [hy])
    omega
theorem sm_minus_len (A B : List ay_Row) : (sm_minus A B).length ≤ A.length := by
  unfold sm_minus
  induction B generalizing A with
  | nil => simp
  | cons x B ih =>
    rw [List.foldl_cons]
    exact Nat.le_trans (ih _) (List.length_erase_le)
theorem sm_apply_len {k wb a b : Nat} {A : List ay_Row} {f : ay_Row → List ay_Row} (hA : A.length ≤ a) (hf : ∀ r, (f r).length ≤ b) : (sm_apply k wb A f).length ≤ (if k = 0 then a * b else if k = 1 then a * max 1 b else a) := by
  unfold sm_apply
  split
  · refine Nat.le_trans (sm_len_flat (n := b) fun x _ => ?_) (Nat.mul_le_mul_right b hA)
    rw [List.length_map]; exact hf x
  · split
    · refine Nat.le_trans (sm_len_flat (n := max 1 b) fun x _ => ?_) (Nat.mul_le_mul_right _ hA)
      split
      · simp; omega
      · rw [List.length_map]; have := hf x; omega
    · split <;> exact Nat.le_trans (List.length_filter_le _ _) hA
theorem sm_mul_le {a b c : Nat} (h : b ≤ c) : a * b ≤ (a + 1) * c := Nat.mul_le_mul (by omega) h
/-- rows are no more than the size, which is no more than the cost -/
theorem sm_sizes {T : Nat → sm_T} {tc : Nat → Nat} {nt N : Nat} {tb : Nat → List ay_Row} {tr : Nat → Nat} (w : sm_wf T tc nt N) (hT : ∀ k, k < nt → k < 6 ∧ (tb k).length = tr k) : ∀ t, t < N → sm_zc T tr t ≤ 3000 → sm_sort (sm_k (T t)) = 2 →
    sm_zs T tr t ≤ sm_zc T tr t ∧ (11 < sm_k (T t) → sm_zs T tr t = sm_own (T t) (sm_zs T tr (sm_a (T t))) (sm_p2 (T t).2.2.2.1 (sm_zs T tr))) ∧ ∀ e : sm_E, (sm_S T tb t e).2.length ≤ sm_zs T tr t := by
  refine sm_ind fun t ht ih hc hs => ?_
  have hw := (w t ht).1
  have hs : 11 ≤ sm_k (T t) := by
    unfold sm_sort at hs
    split at hs
    · omega
    · split at hs <;> omega
  have cutE : 11 < sm_k (T t) → sm_own (T t) (sm_zs T tr (sm_a (T t))) (sm_p2 (T t).2.2.2.1 (sm_zs T tr)) ≤ sm_zc T tr t → sm_zs T tr t = sm_own (T t) (sm_zs T tr (sm_a (T t))) (sm_p2 (T t).2.2.2.1 (sm_zs T tr)) := fun h1 h2 => by
    rw [sm_zsB w ht h1]
    unfold sm_cut
    rw [if_neg (by omega)]
  have fin : ∀ o : Nat, sm_own (T t) (sm_zs T tr (sm_a (T t))) (sm_p2 (T t).2.2.2.1 (sm_zs T tr)) = o → 11 < sm_k (T t) → o ≤ sm_zc T tr t → (∀ e : sm_E, (sm_S T tb t e).2.length ≤ o) → sm_zs T tr t ≤ sm_zc T tr t ∧ (11 < sm_k (T t) → sm_zs T tr t = sm_own (T t) (sm_zs T tr (sm_a (T t))) (sm_p2 (T t).2.2.2.1 (sm_zs T tr))) ∧ ∀ e : sm_E, (sm_S T tb t e).2.length ≤ sm_zs T tr t := fun o h1 h2 h3 h4 => by
    have := cutE h2 (by omega)
    exact ⟨by omega, fun _ => this, fun e => by rw [this, h1]; exact h4 e⟩
  rcases sm_split (sm_k20 hw) with hk | hk | hk | hk | hk | hk | hk | hk | hk | hk | hk | hk | hk | hk | hk | hk | hk | hk | hk | hk | hk
  iterate 11 omega
  · have h1 := sm_zcS w ht hc hk
    refine ⟨by omega, fun q => by omega, fun e => ?_⟩
    obtain ⟨-, -, -, k, h1, h2, h3⟩ := sm_wf11 hw hk
    rw [sm_S_eq w ht, sm_body11 hk, sm_zsS w ht hk, h2, nI_clamp (by have := (hT k h1).1; omega)]
    exact Nat.le_of_eq (hT k h1).2
  · have q := sm_wf12 hw hk
    have h1 := sm_zcI w ht hc q.2.1.1 (by omega) (by omega) (by rw [hk]; rfl)
    have hA := ih _ q.1.2.1 (by omega) q.1.2.2
    refine fin (sm_zs T tr (sm_a (T t))) (by simp [sm_own, hk]) (by omega) (by omega) fun e => ?_
    rw [sm_S_eq w ht, sm_body12 hk]
    exact Nat.le_trans (List.length_filter_le _ _) (hA.2.2 e)
  · have q := sm_wf13 hw hk
    have h1 := sm_zcI w ht hc q.2.1.1 (by omega) (by omega) (by rw [hk]; rfl)
    have hA := ih _ q.1.2.1 (by omega) q.1.2.2
    refine fin (sm_zs T tr (sm_a (T t))) (by simp [sm_own, hk]) (by omega) (by omega) fun e => ?_
    rw [sm_S_eq w ht, sm_body13 hk, List.length_map]
    exact hA.2.2 e
  · have q := sm_wf14 hw hk
    have h1 := sm_zc1 w ht hc q.2.1 (by omega) (by omega) (by rw [hk]; rfl) (by omega)
    have hA := ih _ q.1.2.1 (by omega) q.1.2.2
    refine fin (sm_zs T tr (sm_a (T t))) (by simp [sm_own, hk]) (by omega) (by omega) fun e => ?_
    rw [sm_S_eq w ht, sm_body14 hk, List.length_map]
    exact hA.2.2 e
  · have q := sm_wf15 hw hk
    have h1 := sm_zcP w ht hc q.2.1.1 hk
    have hA := ih _ q.1.2.1 (by omega) q.1.2.2
    have hB := ih _ q.2.1.2.1 (by omega) q.2.1.2.2
    have h2 := sm_zsB (tr := tr) w ht (by omega)
    have h3 : sm_own (T t) (sm_zs T tr (sm_a (T t))) (sm_p2 (T t).2.2.2.1 (sm_zs T tr)) = sm_zs T tr (sm_a (T t)) * sm_zs T tr (sm_b (T t)) := by rw [q.2.1.1]; simp [sm_own, hk, sm_p2]
    have h4 := sm_cut_le (n := sm_own (T t) (sm_zs T tr (sm_a (T t))) (sm_p2 (T t).2.2.2.1 (sm_zs T tr))) (m := 3000) (by rw [← h2]; omega) (by omega)
    refine fin _ h3 (by omega) (by omega) fun e => ?_
    rw [sm_S_eq w ht, sm_body15 hk]
    have := sm_apply_len (k := 0) (wb := 0) (hA.2.2 e) (fun _ => hB.2.2 e)
    simpa using this
  · have q := sm_wf16 hw hk
    have h1 := sm_zcI w ht hc q.2.1.1 (by omega) (by omega) (by rw [hk]; rfl)
    have hb : sm_zc T tr (sm_b (T t)) ≤ sm_zc T tr t := by
      have : 1 * sm_zc T tr (sm_b (T t)) ≤ (sm_zs T tr (sm_a (T t)) + 1) * sm_zc T tr (sm_b (T t)) := Nat.mul_le_mul_right _ (by omega)
      omega
    have hA := ih _ q.1.2.1 (by omega) q.1.2.2
    have hB := ih _ q.2.1.2.1 (by omega) q.2.1.2.2
    have hp := sm_zc_pos (tr := tr) w (t := sm_b (T t)) (by have := q.2.1.2.1; omega)
    have h3 : sm_own (T t) (sm_zs T tr (sm_a (T t))) (sm_p2 (T t).2.2.2.1 (sm_zs T tr)) = if sm_o (T t) = 0 then sm_zs T tr (sm_a (T t)) * sm_zs T tr (sm_b (T t)) else if sm_o (T t) = 1 then sm_zs T tr (sm_a (T t)) * max 1 (sm_zs T tr (sm_b (T t))) else sm_zs T tr (sm_a (T t)) := by rw [q.2.1.1]; simp [sm_own, hk, sm_p2]
    refine fin _ h3 (by omega) ?_ fun e => ?_
    · have g1 := sm_mul_le (a := sm_zs T tr (sm_a (T t))) hB.1
      have g2 := sm_mul_le (a := sm_zs T tr (sm_a (T t))) (b := max 1 (sm_zs T tr (sm_b (T t)))) (c := sm_zc T tr (sm_b (T t))) (by omega)
      split
      · omega
      · split <;> omega
    · rw [sm_S_eq w ht, sm_body16 hk]
      exact sm_apply_len (hA.2.2 e) (fun r => hB.2.2 _)
  · have q := sm_wf17 hw hk
    have h1 := sm_zc2 w ht hc q.2.1.1 (by omega) (by omega) (by rw [hk]; rfl) (by omega)
    have hA := ih _ q.1.2.1 (by omega) q.1.2.2
    have hB := ih _ q.2.1.2.1 (by omega) q.2.1.2.2
    have h3 : sm_own (T t) (sm_zs T tr (sm_a (T t))) (sm_p2 (T t).2.2.2.1 (sm_zs T tr)) = if sm_o (T t) = 0 then sm_zs T tr (sm_a (T t)) + sm_zs T tr (sm_b (T t)) else sm_zs T tr (sm_a (T t)) := by rw [q.2.1.1]; simp [sm_own, hk, sm_p2]
    refine fin _ h3 (by omega) (by split <;> omega) fun e => ?_
    rw [sm_S_eq w ht, sm_body17 hk]
    have a1 := hA.2.2 e
    have b1 := hB.2.2 e
    show (sm_both _ _ _).length ≤ _
    unfold sm_both
    split
    · rw [List.length_append]; omega
    · split <;> exact Nat.le_trans (sm_minus_len _ _) a1
  · have q := sm_wf18 hw hk
    have h1 := sm_zc1 w ht hc q.2.1 (by omega) (by omega) (by rw [hk]; rfl) (by omega)
    have hA := ih _ q.1.2.1 (by omega) q.1.2.2
    refine fin (sm_zs T tr (sm_a (T t))) (by simp [sm_own, hk]) (by omega) (by omega) fun e => ?_
    rw [sm_S_eq w ht, sm_body18 hk]
    exact Nat.le_trans (sm_once_len _) (hA.2.2 e)
  · have q := sm_wf19 hw hk
    have h1 := sm_zc1 w ht hc q.2.1 (by omega) (by omega) (by rw [hk]; rfl) (by omega)
    have hA := ih _ q.1.2.1 (by omega) q.1.2.2
    refine fin (min (sm_zs T tr (sm_a (T t))) (sm_n (T t)).toNatClampNeg) (by simp [sm_own, hk]) (by omega) (by omega) fun e => ?_
    rw [sm_S_eq w ht, sm_body19 hk]
    show ((sm_srt _).take _).length ≤ _
    rw [List.length_take, (sm_srt_perm _).length_eq]
    have := hA.2.2 e
    omega
  · have q := sm_wf20 hw hk
    have h1 := sm_zc1 w ht hc q.2.1 (by omega) (by omega) (by rw [hk]; rfl) (by omega)
    have hA := ih _ q.1.2.1 (by omega) q.1.2.2
    refine fin (max 1 (sm_zs T tr (sm_a (T t)))) (by simp [sm_own, hk]) (by omega) (by omega) fun e => ?_
    rw [sm_S_eq w ht, sm_body20 hk]
    show (sm_groups _ _ _ _).length ≤ _
    have := hA.2.2 e
    unfold sm_groups
    split
    · simp; omega
    · rw [List.length_map]
      have h2 := sm_once_len (((sm_S T tb (sm_a (T t)) e).2).map (sm_pick (sm_ks (sm_n (T t)))))
      rw [List.length_map] at h2
      omega
