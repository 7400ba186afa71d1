/-! LAW: lists of rows behind rows -/
def lw_J (X : List ay_Row) (f : ay_Row → List ay_Row) : List ay_Row := X.flatMap fun xr => (f xr).map fun r => xr ++ r
def lw_E (pl : Nat → Nat) (xr : ay_Row) : sm_E := fun k => xr.getD (pl k) 0
theorem lw_J_nil {f : ay_Row → List ay_Row} : lw_J [] f = [] := rfl
theorem lw_J_cons {x : ay_Row} {X : List ay_Row} {f : ay_Row → List ay_Row} : lw_J (x :: X) f = ((f x).map fun r => x ++ r) ++ lw_J X f := by unfold lw_J; rw [List.flatMap_cons]
theorem lw_J_mem {X : List ay_Row} {f : ay_Row → List ay_Row} {y : ay_Row} : y ∈ lw_J X f ↔ ∃ xr, xr ∈ X ∧ ∃ r, r ∈ f xr ∧ xr ++ r = y := by
  unfold lw_J
  rw [List.mem_flatMap]
  constructor
  · rintro ⟨x, hx, hy⟩
    obtain ⟨r, hr, e⟩ := List.mem_map.mp hy
    exact ⟨x, hx, r, hr, e⟩
  · rintro ⟨x, hx, r, hr, e⟩
    exact ⟨x, hx, List.mem_map.mpr ⟨r, hr, e⟩⟩
theorem lw_J_perm {X Y : List ay_Row} {f g : ay_Row → List ay_Row} (h : X.Perm Y) (hf : ∀ x, x ∈ X → (f x).Perm (g x)) : (lw_J X f).Perm (lw_J Y g) := by
  unfold lw_J
  refine (h.flatMap_right _).trans (sm_flat_perm fun x hx => (hf x (h.mem_iff.mpr hx)).map _)
theorem lw_J_congr {X : List ay_Row} {f g : ay_Row → List ay_Row} (hf : ∀ x, x ∈ X → f x = g x) : lw_J X f = lw_J X g := by
  induction X with
  | nil => rfl
  | cons x X ih => rw [lw_J_cons, lw_J_cons, hf x (by simp), ih fun y hy => hf y (by simp [hy])]
theorem lw_J_W {X : List ay_Row} {f : ay_Row → List ay_Row} {n w : Nat} (hX : sl_W n X) (hf : ∀ x, x ∈ X → sl_W w (f x)) : sl_W (n + w) (lw_J X f) := fun y hy => by
  obtain ⟨x, hx, r, hr, rfl⟩ := lw_J_mem.mp hy
  rw [List.length_append, hX x hx, hf x hx r hr]
theorem lw_J_len {X : List ay_Row} {f : ay_Row → List ay_Row} {b : Nat} (hf : ∀ x, x ∈ X → (f x).length ≤ b) : (lw_J X f).length ≤ X.length * b := by
  unfold lw_J
  exact sm_len_flat fun x hx => by rw [List.length_map]; exact hf x hx
theorem lw_J_filter {X : List ay_Row} {f : ay_Row → List ay_Row} {P : ay_Row → Bool} : (lw_J X f).filter P = lw_J X fun xr => (f xr).filter fun r => P (xr ++ r) := by
  induction X with
  | nil => rfl
  | cons x X ih => rw [lw_J_cons, lw_J_cons, List.filter_append, ih, List.filter_map]; rfl
theorem lw_J_map {X : List ay_Row} {f : ay_Row → List ay_Row} {h : ay_Row → ay_Row} {h' : ay_Row → ay_Row → ay_Row} (e : ∀ x, x ∈ X → ∀ r, r ∈ f x → h (x ++ r) = x ++ h' x r) : (lw_J X f).map h = lw_J X fun xr => (f xr).map (h' xr) := by
  induction X with
  | nil => rfl
  | cons x X ih =>
    rw [lw_J_cons, lw_J_cons, List.map_append, ih fun y hy => e y (by simp [hy]), List.map_map, List.map_map]
    congr 1
    exact List.map_congr_left fun r hr => e x (by simp) r hr
theorem lw_J_flatMap {X : List ay_Row} {f : ay_Row → List ay_Row} {h : ay_Row → List ay_Row} {h' : ay_Row → ay_Row → List ay_Row} (e : ∀ x, x ∈ X → ∀ r, r ∈ f x → (h (x ++ r)).Perm ((h' x r).map fun s => x ++ s)) : ((lw_J X f).flatMap h).Perm (lw_J X fun xr => (f xr).flatMap (h' xr)) := by
  induction X with
  | nil => exact List.Perm.nil
  | cons x X ih =>
    rw [lw_J_cons, lw_J_cons, List.flatMap_append]
    refine List.Perm.append ?_ (ih fun y hy => e y (by simp [hy]))
    have e := e x (by simp)
    generalize f x = l at e
    induction l with
    | nil => exact List.Perm.nil
    | cons r l ih2 =>
      rw [List.map_cons, List.flatMap_cons, List.flatMap_cons, List.map_append]
      exact (e r (by simp)).append (ih2 fun r' hr' => e r' (by simp [hr']))
/-- rows behind one row -/
theorem lw_J_mt {X : List ay_Row} {f : ay_Row → List ay_Row} {n : Nat} {κ : ay_Row} (hX : sl_W n X) (hn : X.Nodup) (hκ : κ ∈ X) : (lw_J X f).filter (fun y => y.take n == κ) = (f κ).map fun r => κ ++ r := by
  have tk : ∀ x, x.length = n → ∀ r : ay_Row, (x ++ r).take n = x := fun x hx r => by rw [← hx, List.take_left']; rfl
  have none' : ∀ Y : List ay_Row, sl_W n Y → κ ∉ Y → (lw_J Y f).filter (fun y => y.take n == κ) = [] := fun Y hY hn => by
    rw [List.filter_eq_nil_iff]
    intro y hy hq
    obtain ⟨x, hx, r, hr, rfl⟩ := lw_J_mem.mp hy
    rw [tk x (hY x hx), beq_iff_eq] at hq
    exact hn (hq ▸ hx)
  induction X with
  | nil => cases hκ
  | cons x X ih =>
    rw [sl_W_cons] at hX
    rw [List.nodup_cons] at hn
    rw [lw_J_cons, List.filter_append]
    by_cases e : x = κ
    · subst e
      rw [none' X hX.2 hn.1, List.append_nil]
      rw [List.filter_eq_self]
      intro y hy
      obtain ⟨r, hr, rfl⟩ := List.mem_map.mp hy
      rw [tk x hX.1]; simp
    · have hk : κ ∈ X := by
        rcases List.mem_cons.mp hκ with h | h
        · exact absurd h.symm e
        · exact h
      rw [ih hX.2 hn.2 hk]
      have : ((f x).map fun r => x ++ r).filter (fun y => y.take n == κ) = [] := by
        rw [List.filter_eq_nil_iff]
        intro y hy hq
        obtain ⟨r, hr, rfl⟩ := List.mem_map.mp hy
        rw [tk x hX.1, beq_iff_eq] at hq
        exact e hq
      rw [this, List.nil_append]
theorem lw_J_count {X : List ay_Row} {f : ay_Row → List ay_Row} {n : Nat} (hX : sl_W n X) (hn : X.Nodup) (y : ay_Row) : (lw_J X f).count y = if y.take n ∈ X then (f (y.take n)).count (y.drop n) else 0 := by
  have split : ∀ x : ay_Row, x.length = n → ∀ r : ay_Row, x ++ r = y ↔ x = y.take n ∧ r = y.drop n := fun x hx r => by
    constructor
    · rintro rfl
      rw [← hx, List.take_left', List.drop_left'] <;> simp
    · rintro ⟨h1, h2⟩
      rw [h1, h2, List.take_append_drop]
  have cnt : ∀ (x : ay_Row) (l : List ay_Row), x.length = n → (l.map fun r => x ++ r).count y = if x = y.take n then l.count (y.drop n) else 0 := fun x l hx => by
    induction l with
    | nil => simp
    | cons r l ih =>
      rw [List.map_cons, List.count_cons, ih, List.count_cons]
      by_cases e1 : x = y.take n
      · by_cases e2 : r = y.drop n
        · have : x ++ r = y := (split x hx r).mpr ⟨e1, e2⟩
          simp only [e1, e2, if_true, beq_self_eq_true, List.take_append_drop]
        · have h1 : ¬ x ++ r = y := fun q => e2 ((split x hx r).mp q).2
          have b1 : (x ++ r == y) = false := beq_eq_false_iff_ne.mpr h1
          have b2 : (r == y.drop n) = false := beq_eq_false_iff_ne.mpr e2
          rw [if_pos e1, if_pos e1, b1, b2]
      · have h1 : ¬ x ++ r = y := fun q => e1 ((split x hx r).mp q).1
        have b1 : (x ++ r == y) = false := beq_eq_false_iff_ne.mpr h1
        rw [if_neg e1, if_neg e1, b1]
        simp only [Bool.false_eq_true, if_false]
  induction X with
  | nil => simp [lw_J]
  | cons x X ih =>
    rw [sl_W_cons] at hX
    rw [List.nodup_cons] at hn
    rw [lw_J_cons, List.count_append, ih hX.2 hn.2, cnt x _ hX.1]
    by_cases e : x = y.take n
    · rw [if_pos e, if_neg (by rw [← e]; exact hn.1), if_pos (by rw [← e]; simp), e, Nat.add_zero]
    · have : (y.take n ∈ x :: X) ↔ y.take n ∈ X := by
        rw [List.mem_cons]
        exact ⟨fun q => q.elim (fun q => absurd q.symm e) id, Or.inr⟩
      rw [if_neg e, Nat.zero_add]
      by_cases h : y.take n ∈ X
      · rw [if_pos h, if_pos (this.mpr h)]
      · rw [if_neg h, if_neg (fun q => h (this.mp q))]
theorem sm_once_cnt (l : List ay_Row) (x : ay_Row) : (sm_once l).count x = if x ∈ l then 1 else 0 := by
  split
  · rename_i h
    have h1 := List.nodup_iff_count.mp (sm_once_nodup l) x
    have h2 : 0 < (sm_once l).count x := List.count_pos_iff.mpr ((sm_once_mem l x).mpr h)
    omega
  · rename_i h
    exact List.count_eq_zero.mpr fun q => h ((sm_once_mem l x).mp q)
theorem lw_J_once {X : List ay_Row} {f : ay_Row → List ay_Row} {n : Nat} (hX : sl_W n X) (hn : X.Nodup) : (sm_once (lw_J X f)).Perm (lw_J X fun x => sm_once (f x)) := by
  rw [List.perm_iff_count]
  intro y
  rw [lw_J_count hX hn]
  have hc := lw_J_count (f := f) hX hn y
  rw [sm_once_cnt]
  by_cases h : y.take n ∈ X
  · rw [if_pos h] at hc ⊢
    rw [sm_once_cnt]
    have : y ∈ lw_J X f ↔ y.drop n ∈ f (y.take n) := by rw [← List.count_pos_iff, ← List.count_pos_iff, hc]
    by_cases q : y ∈ lw_J X f
    · rw [if_pos q, if_pos (this.mp q)]
    · rw [if_neg q, if_neg (fun e => q (this.mpr e))]
  · rw [if_neg h] at hc ⊢
    exact if_neg (List.count_eq_zero.mp hc)
theorem ex_apart_count : ∀ (sh : Bool) (L R : List ay_Row) (y : ay_Row), (ex_apart sh L R).count y = if sh then min (L.count y) (R.count y) else L.count y - R.count y
  | sh, [], R, y => by unfold ex_apart; cases sh <;> simp
  | sh, x :: L, R, y => by
    unfold ex_apart
    have ih1 := ex_apart_count sh L (R.erase x) y
    have ih2 := ex_apart_count sh L R y
    rw [List.count_erase] at ih1
    have hcx := List.count_cons (a := y) (b := x) (l := L)
    by_cases e : x = y
    · subst e
      rw [beq_self_eq_true, if_pos rfl] at ih1 hcx
      split
      · rename_i hm
        have hp := List.count_pos_iff.mpr hm
        cases sh
        · rw [if_neg (by decide), ih1, hcx, if_neg (by decide), if_neg (by decide)]; omega
        · rw [if_pos rfl, List.count_cons, beq_self_eq_true, if_pos rfl, ih1, hcx, if_pos rfl, if_pos rfl]; omega
      · rename_i hm
        have hp := List.count_eq_zero.mpr hm
        cases sh
        · rw [if_neg (by decide), List.count_cons, beq_self_eq_true, if_pos rfl, ih2, hcx, if_neg (by decide), if_neg (by decide)]; omega
        · rw [if_pos rfl, ih2, hcx, if_pos rfl, if_pos rfl]; omega
    · have b1 : (x == y) = false := beq_eq_false_iff_ne.mpr e
      have b2 : (y == x) = false := beq_eq_false_iff_ne.mpr fun q => e q.symm
      rw [b1, if_neg (by decide)] at hcx
      have ih1 : (ex_apart sh L (R.erase x)).count y = if sh then min (L.count y) (R.count y) else L.count y - R.count y := by
        rw [ih1]
        first
        | rw [b2]; simp
        | rw [b1]; simp
      rw [Nat.add_zero] at hcx
      split
      · cases sh
        · rw [if_neg (by decide), ih1, hcx]
        · rw [if_pos rfl, List.count_cons, b1, ih1, hcx]
          simp only [Bool.false_eq_true, if_false, Nat.add_zero]
      · cases sh
        · rw [if_neg (by decide), List.count_cons, b1, ih2, hcx]
          simp only [Bool.false_eq_true, if_false, Nat.add_zero]
        · rw [if_pos rfl, ih2, hcx]
theorem lw_apart {X : List ay_Row} {f g : ay_Row → List ay_Row} {n op : Nat} {L R : List ay_Row} (hX : sl_W n X) (hn : X.Nodup) (hL : L.Perm (lw_J X f)) (hR : R.Perm (lw_J X g)) (hop : op = 1 ∨ op = 2) : (ex_apart (op == 2) L R).Perm (lw_J X fun x => sm_both op (f x) (g x)) := by
  rw [List.perm_iff_count]
  intro y
  rw [lw_J_count hX hn, ex_apart_count, hL.count_eq, hR.count_eq, lw_J_count hX hn, lw_J_count hX hn]
  by_cases h : y.take n ∈ X
  · rw [if_pos h, if_pos h, if_pos h]
    unfold sm_both
    rcases hop with rfl | rfl
    · rw [if_neg (by decide), if_neg (by decide), if_pos rfl, sm_minus_count]
    · rw [if_pos (by decide), if_neg (by decide), if_neg (by decide), sm_minus_count, sm_minus_count]; omega
  · rw [if_neg h, if_neg h, if_neg h]
    rcases hop with rfl | rfl <;> simp
theorem lw_J_app {X : List ay_Row} {f g : ay_Row → List ay_Row} : (lw_J X f ++ lw_J X g).Perm (lw_J X fun x => f x ++ g x) := by
  induction X with
  | nil => exact List.Perm.nil
  | cons x X ih =>
    rw [lw_J_cons, lw_J_cons, lw_J_cons, List.map_append, List.append_assoc, List.append_assoc]
    refine List.Perm.append_left _ ?_
    refine (List.perm_append_comm_assoc _ _ _).trans ?_
    exact List.Perm.append_left _ ih
/-! sorted -/
theorem sm_le_app : ∀ {a : ay_Row} {r s : ay_Row}, sm_le (a ++ r) (a ++ s) = sm_le r s
  | [], _, _ => rfl
  | x :: a, r, s => by
    show (decide (x < x) || (decide (x = x) && sm_le (a ++ r) (a ++ s))) = _
    rw [sm_le_app]
    simp [sm_i_lt]
theorem sm_le_lt : ∀ {a b : ay_Row} {r s : ay_Row}, a.length = b.length → a ≠ b → sm_le a b = true → sm_le (a ++ r) (b ++ s) = true
  | [], [], _, _, _, h, _ => absurd rfl h
  | [], _ :: _, _, _, h, _, _ => by simp at h
  | _ :: _, [], _, _, h, _, _ => by simp at h
  | x :: a, y :: b, r, s, hl, hn, h => by
    show (decide (x < y) || (decide (x = y) && sm_le (a ++ r) (b ++ s))) = true
    have h : (decide (x < y) || (decide (x = y) && sm_le a b)) = true := h
    rw [Bool.or_eq_true, Bool.and_eq_true, decide_eq_true_eq, decide_eq_true_eq] at h ⊢
    rcases h with h | ⟨h1, h2⟩
    · exact Or.inl h
    · exact Or.inr ⟨h1, sm_le_lt (by simpa using hl) (fun e => hn (by rw [h1, e])) h2⟩
theorem lw_J_srt {X : List ay_Row} {f : ay_Row → List ay_Row} {n : Nat} (hX : sl_W n X) (hn : X.Nodup) : sm_srt (lw_J X f) = lw_J (sm_srt X) fun x => sm_srt (f x) := by
  symm
  refine sm_srt_uniq (lw_J_perm (sm_srt_perm X) fun x _ => sm_srt_perm _) ?_
  have hp := sm_srt_pw X
  have hW : sl_W n (sm_srt X) := sl_W_sub hX fun r hr => (sm_srt_perm X).mem_iff.mp hr
  have hN : (sm_srt X).Nodup := (sm_srt_perm X).nodup_iff.mpr hn
  generalize sm_srt X = Y at hp hW hN
  induction Y with
  | nil => exact List.Pairwise.nil
  | cons x Y ih =>
    rw [List.pairwise_cons] at hp
    rw [sl_W_cons] at hW
    rw [List.nodup_cons] at hN
    rw [lw_J_cons, List.pairwise_append]
    refine ⟨?_, ih hp.2 hW.2 hN.2, fun a ha b hb => ?_⟩
    · rw [List.pairwise_map]
      exact (sm_srt_pw (f x)).imp fun h => by rw [sm_le_app]; exact h
    · obtain ⟨r, hr, rfl⟩ := List.mem_map.mp ha
      obtain ⟨y, hy, s, hs, rfl⟩ := lw_J_mem.mp hb
      exact sm_le_lt (by rw [hW.1, hW.2 y hy]) (fun e => hN.1 (e ▸ hy)) (hp.1 y hy)
theorem ex_top_cons {n m c : Nat} {p : Option ay_Row} {x : ay_Row} {R : List ay_Row} : ex_top n m p c (x :: R) = if (if p.map (List.take n) = some (x.take n) then c + 1 else 0) < m then x :: ex_top n m (some x) (if p.map (List.take n) = some (x.take n) then c + 1 else 0) R else ex_top n m (some x) (if p.map (List.take n) = some (x.take n) then c + 1 else 0) R := by rw [ex_top]
theorem ex_top_skip {n m : Nat} {x : ay_Row} (hx : x.length = n) : ∀ (l : List ay_Row) (p : ay_Row) (c : Nat) (rest : List ay_Row), p.take n = x → ex_top n m (some p) c ((l.map fun r => x ++ r) ++ rest) = ((l.take (m - (c + 1))).map fun r => x ++ r) ++ ex_top n m (some ((l.getLast?.map fun r => x ++ r).getD p)) (c + l.length) rest
  | [], p, c, rest, hp => by simp
  | r :: l, p, c, rest, hp => by
    have tk : (x ++ r).take n = x := by rw [← hx, List.take_left']; rfl
    have lst : ((r :: l).getLast?.map fun r => x ++ r).getD p = (l.getLast?.map fun r => x ++ r).getD (x ++ r) := by
      cases l with
      | nil => rfl
      | cons a l => rfl
    rw [List.map_cons, List.cons_append, ex_top_cons]
    have e1 : (some p).map (List.take n) = some ((x ++ r).take n) := by rw [tk, ← hp]; rfl
    rw [if_pos e1]
    have ih := ex_top_skip (m := m) hx l (x ++ r) (c + 1) rest tk
    rw [ih, lst]
    have ec : c + 1 + l.length = c + (r :: l).length := by rw [List.length_cons]; omega
    rw [ec]
    split
    · rename_i h
      have e2 : m - (c + 1) = (m - (c + 1 + 1)) + 1 := by omega
      rw [e2, List.take_succ_cons, List.map_cons, List.cons_append]
    · rename_i h
      have e2 : m - (c + 1) = 0 := by omega
      have e3 : m - (c + 1 + 1) = 0 := by omega
      rw [e2, e3, List.take_zero, List.take_zero]
theorem lw_top {n m : Nat} {f : ay_Row → List ay_Row} (hm : 1 ≤ m) : ∀ (Y : List ay_Row) (p : Option ay_Row) (c : Nat), sl_W n Y → Y.Nodup → (∀ q, p = some q → q.take n ∉ Y) → ex_top n m p c (lw_J Y f) = lw_J Y fun x => (f x).take m
  | [], p, c, _, _, _ => by rw [lw_J_nil, lw_J_nil]; unfold ex_top; rfl
  | x :: Y, p, c, hW, hN, hp => by
    rw [sl_W_cons] at hW
    rw [List.nodup_cons] at hN
    rw [lw_J_cons, lw_J_cons]
    cases hf : f x with
    | nil =>
      rw [List.map_nil, List.nil_append, List.take_nil, List.map_nil, List.nil_append]
      exact lw_top hm Y p c hW.2 hN.2 fun q hq h => hp q hq (by simp [h])
    | cons r l =>
      have tk : ∀ r : ay_Row, (x ++ r).take n = x := fun r => by rw [← hW.1, List.take_left']; rfl
      rw [List.map_cons, List.cons_append, ex_top_cons]
      have e1 : ¬ p.map (List.take n) = some ((x ++ r).take n) := by
        rw [tk]
        intro e
        cases p with
        | none => cases e
        | some q =>
          have e : some (q.take n) = some x := e
          exact hp q rfl (by rw [Option.some.inj e]; simp)
      rw [if_neg e1, if_pos (by omega), ex_top_skip hW.1 l (x ++ r) 0 _ (tk r)]
      rw [lw_top hm Y _ _ hW.2 hN.2 fun q hq h => ?_]
      · have e2 : m = (m - (0 + 1)) + 1 := by omega
        have e3 : ((r :: l).take m) = r :: l.take (m - (0 + 1)) := by rw [e2, List.take_succ_cons]; congr 1
        rw [e3, List.map_cons, List.cons_append]
      · have : q.take n = x := by
          have hq := (Option.some.inj hq).symm
          rw [hq]
          cases hl : l.getLast? with
          | none => exact tk r
          | some a => exact tk a
        rw [this] at h
        exact hN.1 h
