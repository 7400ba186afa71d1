/-! LAW: keys, gathering, joining -/
def lw_key (l : Nat) (pl : Nat → Nat) (er : ay_Row) : ay_Row := (cp_bits l).map fun k => er.getD (pl k) 0
theorem lw_key_len {l : Nat} {pl : Nat → Nat} {er : ay_Row} : (lw_key l pl er).length = (cp_bits l).length := by unfold lw_key; rw [List.length_map]
theorem cp_bits_mem {l k : Nat} : k ∈ cp_bits l ↔ k < 32 ∧ l.testBit k = true := by unfold cp_bits; rw [List.mem_filter, List.mem_range]
theorem ex_key_cl {l : Nat} {pl : Nat → Nat} {er : ay_Row} (h : ∀ k, k < 32 → l.testBit k = true → pl k < 2 ^ 31) : ex_key (cp_cl l pl) er = lw_key l pl er := by
  unfold ex_key cp_cl lw_key
  rw [List.map_map]
  refine List.map_congr_left fun k hk => ?_
  have := cp_bits_mem.mp hk
  show er.getD (nI (pl k)).toNatClampNeg 0 = _
  rw [nI_clamp (h k this.1 this.2)]
theorem lw_key_get {l k : Nat} {pl : Nat → Nat} {er : ay_Row} (hk : k < 32) (hb : l.testBit k = true) : (lw_key l pl er).getD (cp_rank l k) 0 = er.getD (pl k) 0 ∧ cp_rank l k < (cp_bits l).length := by
  have e : List.range 32 = List.range k ++ (k :: (List.range (31 - k)).map fun y => k + (y + 1)) := by
    have e1 : (32 : Nat) = k + ((31 - k) + 1) := by omega
    rw [e1, List.range_add, List.range_succ_eq_map, List.map_cons, List.map_map]
    rw [Nat.add_zero]
    rfl
  have e2 : cp_bits l = (List.range k).filter (fun j => l.testBit j) ++ (k :: ((List.range (31 - k)).map fun y => k + (y + 1)).filter (fun j => l.testBit j)) := by
    unfold cp_bits
    rw [e, List.filter_append, List.filter_cons, if_pos hb]
  unfold lw_key cp_rank
  rw [e2]
  refine ⟨?_, by rw [List.length_append, List.length_cons]; omega⟩
  rw [List.map_append, List.map_cons, List.getD_eq_getElem?_getD, List.getElem?_append_right (by rw [List.length_map]; exact Nat.le_refl _), List.length_map, Nat.sub_self]
  rfl
/-- a term inside sees through a key what it would see in the row -/
theorem lw_key_S {T : Nat → sm_T} {tc : Nat → Nat} {nt N t : Nat} {tb : Nat → List ay_Row} {pl : Nat → Nat} {er : ay_Row} (w : sm_wf T tc nt N) (ht : t < N) : sm_S T tb t (lw_E (cp_rank (sm_l (T t))) (lw_key (sm_l (T t)) pl er)) = sm_S T tb t (lw_E pl er) :=
  sm_looks w t ht _ _ fun _ hk hb => (lw_key_get hk hb).1
theorem lw_filt_one {l : List ay_Row} {κ : ay_Row} (hn : l.Nodup) (hm : κ ∈ l) : l.filter (fun y => y == κ) = [κ] := by
  induction l with
  | nil => cases hm
  | cons x l ih =>
    rw [List.nodup_cons] at hn
    rw [List.filter_cons]
    by_cases e : x = κ
    · subst e
      rw [if_pos (by simp)]
      congr 1
      rw [List.filter_eq_nil_iff]
      intro y hy hq
      rw [beq_iff_eq] at hq
      exact hn.1 (hq ▸ hy)
    · rw [if_neg (by simpa using e)]
      refine ih hn.2 ?_
      rcases List.mem_cons.mp hm with h | h
      · exact absurd h.symm e
      · exact h
theorem lw_tk {n : Nat} {x r : ay_Row} (hx : x.length = n) : (x ++ r).take n = x := by rw [← hx, List.take_left']; rfl
theorem lw_dr {n : Nat} {x r : ay_Row} (hx : x.length = n) : (x ++ r).drop n = r := by rw [← hx, List.drop_left']; rfl
theorem lw_gd {n c : Nat} {x r : ay_Row} (hx : x.length = n) : (x ++ r).getD (n + c) 0 = r.getD c 0 := by
  rw [List.getD_eq_getElem?_getD, List.getElem?_append_right (by omega), List.getD_eq_getElem?_getD]
  congr 2; omega
theorem lw_gl {n k : Nat} {x r : ay_Row} (hx : x.length = n) (hk : k < n) : (x ++ r).getD k 0 = x.getD k 0 := by
  rw [List.getD_eq_getElem?_getD, List.getElem?_append_left (by omega), List.getD_eq_getElem?_getD]
def lw_grp (k c : Nat) (pk : ay_Row → ay_Row) (F : List ay_Row) : List ay_Row := (sm_once (F.map pk)).map fun p => p ++ [sm_fold k (sm_at c (F.filter fun r => pk r == p))]
/-- rows gathered behind each row -/
theorem lw_gath {X R : List ay_Row} {f : ay_Row → List ay_Row} {n k c : Nat} {ls : List Int32} {pk : ay_Row → ay_Row} (hX : sl_W n X) (hn : X.Nodup) (hR : R.Perm (lw_J X f)) (hkey : ∀ x, x ∈ X → ∀ r, r ∈ f x → ex_key ls (x ++ r) = x ++ pk r) : (ex_gath ls k (n + c) R).Perm (lw_J X fun x => lw_grp k c pk (f x)) := by
  unfold ex_gath
  have h1 : (sm_once (R.map (ex_key ls))).Perm (lw_J X fun x => sm_once ((f x).map pk)) := by
    refine (sm_once_perm (hR.map _)).trans ?_
    rw [lw_J_map (h' := fun _ => pk) hkey]
    exact lw_J_once hX hn
  refine (h1.map _).trans (List.Perm.of_eq ?_)
  refine (lw_J_map (h' := fun x p => p ++ [sm_fold k (sm_at c ((f x).filter fun r => pk r == p))]) fun x hx p hp => ?_)
  rw [List.append_assoc]
  congr 3
  refine (sm_fold_perm k (sm_at_perm (n + c) (hR.filter _))).trans ?_
  have e1 : (lw_J X f).filter (fun y => ex_key ls y == x ++ p) = ((f x).filter fun r => pk r == p).map fun r => x ++ r := by
    have e2 : (lw_J X f).filter (fun y => ex_key ls y == x ++ p) = ((lw_J X f).filter (fun y => y.take n == x)).filter (fun y => ex_key ls y == x ++ p) := by
      rw [List.filter_filter]
      apply List.filter_congr
      intro y hy
      obtain ⟨x', hx', r, hr, rfl⟩ := lw_J_mem.mp hy
      rw [hkey x' hx' r hr, lw_tk (hX x' hx')]
      by_cases e : x' = x
      · rw [e]; simp
      · have b1 : (x' == x) = false := beq_eq_false_iff_ne.mpr e
        have b2 : (x' ++ pk r == x ++ p) = false := beq_eq_false_iff_ne.mpr fun q => e (by
          have := congrArg (List.take n) q
          rwa [lw_tk (hX x' hx'), lw_tk (hX x hx)] at this)
        rw [b1, b2]; rfl
    rw [e2, lw_J_mt hX hn hx, List.filter_map]
    congr 1
    apply List.filter_congr
    intro r hr
    show (ex_key ls (x ++ r) == x ++ p) = (pk r == p)
    rw [hkey x hx r hr]
    by_cases e : pk r = p
    · rw [e]; simp
    · have b1 : (pk r == p) = false := beq_eq_false_iff_ne.mpr e
      have b2 : (x ++ pk r == x ++ p) = false := beq_eq_false_iff_ne.mpr fun q => e (List.append_cancel_left q)
      rw [b1, b2]
  rw [e1]
  congr 1
  unfold sm_at
  rw [List.map_map]
  exact List.map_congr_left fun r _ => lw_gd (hX x hx)
/-- unlike values are counted by way of unlike rows -/
theorem lw_grp5 {F F2 : List ay_Row} {m c : Nat} {pk : ay_Row → ay_Row} (hp : ∀ r, r ∈ F → (pk r).length = m) (h2 : F2.Perm (sm_once (F.map fun r => pk r ++ [r.getD c 0]))) : (lw_grp 1 m (fun r => r.take m) F2).Perm (lw_grp 5 c pk F) := by
  unfold lw_grp
  have n2 : F2.Nodup := h2.nodup_iff.mpr (sm_once_nodup _)
  have m2 : ∀ y, y ∈ F2 ↔ ∃ r, r ∈ F ∧ pk r ++ [r.getD c 0] = y := fun y => by rw [h2.mem_iff, sm_once_mem, List.mem_map]
  have tk : ∀ r, r ∈ F → ∀ v : Int32, (pk r ++ [v]).take m = pk r := fun r hr v => lw_tk (hp r hr)
  have pe : (sm_once (F2.map fun r => r.take m)).Perm (sm_once (F.map pk)) := by
    rw [List.perm_ext_iff_of_nodup (sm_once_nodup _) (sm_once_nodup _)]
    intro x
    rw [sm_once_mem, sm_once_mem, List.mem_map, List.mem_map]
    constructor
    · rintro ⟨y, hy, rfl⟩
      obtain ⟨r, hr, rfl⟩ := (m2 y).mp hy
      exact ⟨r, hr, (tk r hr _).symm⟩
    · rintro ⟨r, hr, rfl⟩
      exact ⟨pk r ++ [r.getD c 0], (m2 _).mpr ⟨r, hr, rfl⟩, tk r hr _⟩
  refine (pe.map _).trans (List.Perm.of_eq ?_)
  refine List.map_congr_left fun p hp' => ?_
  congr 2
  have lp : p.length = m := by
    rw [sm_once_mem, List.mem_map] at hp'
    obtain ⟨r, hr, rfl⟩ := hp'
    exact hp r hr
  show nI (sm_some (sm_at m (F2.filter fun r => r.take m == p))).length = nI (sm_once (sm_some (sm_at c (F.filter fun r => pk r == p)))).length
  congr 1
  refine List.Perm.length_eq ?_
  have memL : ∀ v, v ∈ sm_at m (F2.filter fun r => r.take m == p) ↔ v ∈ sm_at c (F.filter fun r => pk r == p) := fun v => by
    unfold sm_at
    rw [List.mem_map, List.mem_map]
    constructor
    · rintro ⟨y, hy, rfl⟩
      rw [List.mem_filter] at hy
      obtain ⟨r, hr, rfl⟩ := (m2 y).mp hy.1
      have e := hy.2
      rw [tk r hr] at e
      refine ⟨r, List.mem_filter.mpr ⟨hr, e⟩, ?_⟩
      have := lw_gd (c := 0) (r := [r.getD c 0]) (hp r hr)
      rw [Nat.add_zero] at this
      rw [this]; rfl
    · rintro ⟨r, hr, rfl⟩
      rw [List.mem_filter] at hr
      refine ⟨pk r ++ [r.getD c 0], List.mem_filter.mpr ⟨(m2 _).mpr ⟨r, hr.1, rfl⟩, by rw [tk r hr.1]; exact hr.2⟩, ?_⟩
      have := lw_gd (c := 0) (r := [r.getD c 0]) (hp r hr.1)
      rw [Nat.add_zero] at this
      rw [this]; rfl
  have ndL : (sm_at m (F2.filter fun r => r.take m == p)).Nodup := by
    unfold sm_at List.Nodup
    rw [List.pairwise_map]
    refine (List.Pairwise.and_mem.mp (List.Pairwise.sublist List.filter_sublist n2)).imp ?_
    rintro a b ⟨ha, hb, hab⟩ e
    rw [List.mem_filter] at ha hb
    obtain ⟨r, hr, rfl⟩ := (m2 a).mp ha.1
    obtain ⟨r', hr', rfl⟩ := (m2 b).mp hb.1
    have e1 := ha.2
    have e2 := hb.2
    rw [tk r hr, beq_iff_eq] at e1
    rw [tk r' hr', beq_iff_eq] at e2
    have g1 := lw_gd (c := 0) (r := [r.getD c 0]) (hp r hr)
    have g2 := lw_gd (c := 0) (r := [r'.getD c 0]) (hp r' hr')
    rw [Nat.add_zero] at g1 g2
    rw [g1, g2] at e
    have e : r.getD c 0 = r'.getD c 0 := e
    exact hab (by rw [e1, e2, e])
  have ndS : (sm_some (sm_at m (F2.filter fun r => r.take m == p))).Nodup := List.Pairwise.sublist List.filter_sublist ndL
  rw [List.perm_ext_iff_of_nodup ndS (sm_once_nodup _)]
  intro v
  rw [sm_once_mem]
  unfold sm_some
  rw [List.mem_filter, List.mem_filter, memL]
theorem lw_grp0 {F : List ay_Row} {k c : Nat} : lw_grp k c (fun _ => []) F = if F = [] then [] else [[sm_fold k (sm_at c F)]] := by
  unfold lw_grp
  cases F with
  | nil => rfl
  | cons a F =>
    rw [if_neg (by simp)]
    have e : sm_once ((a :: F).map fun _ => ([] : ay_Row)) = [[]] := by
      have n := sm_once_nodup ((a :: F).map fun _ => ([] : ay_Row))
      have m := sm_once_mem ((a :: F).map fun _ => ([] : ay_Row))
      generalize sm_once ((a :: F).map fun _ => ([] : ay_Row)) = l at n m
      have pe : l.Perm [[]] := by
        rw [List.perm_ext_iff_of_nodup n (by simp)]
        intro x
        rw [m, List.mem_map, List.mem_singleton]
        exact ⟨fun ⟨_, _, h⟩ => h.symm, fun h => ⟨a, by simp, h.symm⟩⟩
      exact List.perm_singleton.mp pe
    rw [e]
    have ef : (a :: F).filter (fun _ => (([] : ay_Row) == [])) = a :: F := List.filter_eq_self.mpr fun _ _ => rfl
    rw [List.map_cons, List.map_nil, ef]; rfl
/-- one value beside each row -/
theorem lw_join1 {X R : List ay_Row} {u : ay_Row → List ay_Row} {n wr : Nat} {ls : List Int32} {v a : Int32} {er κ : ay_Row} (hX : sl_W n X) (hn : X.Nodup) (hR : R.Perm (lw_J X u)) (hl : ls.length = n) (hw : wr = n + 1) (hk : ex_key ls er = κ) (hm : κ ∈ X) (hu : u κ = [] ∧ a = v ∨ u κ = [[a]]) : ex_join1 1 ls v wr R er = [er ++ [a]] := by
  have mt : (ex_mt ls R er).Perm ((u κ).map fun r => κ ++ r) := by
    unfold ex_mt
    rw [hk, hl]
    refine (hR.filter _).trans (List.Perm.of_eq ?_)
    exact lw_J_mt hX hn hm
  unfold ex_join1
  rcases hu with ⟨h0, rfl⟩ | h1
  · rw [h0] at mt
    have m0 : ex_mt ls R er = [] := mt.eq_nil
    rw [if_neg (by rw [m0]; simp), if_pos (by simp)]
    unfold ex_more
    rw [if_pos (by omega), if_neg (by omega), hl, hw, Nat.add_sub_cancel_left]; rfl
  · rw [h1] at mt
    have m1 : ex_mt ls R er = [κ ++ [a]] := List.perm_singleton.mp mt
    rw [m1, if_pos ⟨by omega, by simp⟩, hl, List.map_cons, List.map_nil, lw_dr (hX κ hm)]
theorem lw_join4 {R : List ay_Row} {wr : Nat} {ls : List Int32} {v : Int32} {er κ : ay_Row} (hR : sl_W ls.length R) (hk : ex_key ls er = κ) : ex_join1 4 ls v wr R er = [er ++ [if κ ∈ R then 1 else 0]] := by
  have mt : ex_mt ls R er = [] ↔ κ ∉ R := by
    unfold ex_mt
    rw [hk, List.filter_eq_nil_iff]
    constructor
    · intro h hm
      refine h κ hm ?_
      rw [List.take_of_length_le (by rw [hR κ hm]; exact Nat.le_refl _)]; simp
    · intro h y hy hq
      rw [List.take_of_length_le (by rw [hR y hy]; exact Nat.le_refl _), beq_iff_eq] at hq
      exact h (hq ▸ hy)
  unfold ex_join1
  rw [if_neg (by omega), if_pos (Or.inl rfl), if_pos rfl]
  unfold ex_more
  rw [if_neg (by omega), if_pos rfl]
  by_cases h : κ ∈ R
  · have e1 : (if ex_mt ls R er = [] then (0 : Int32) else 1) = 1 := if_neg fun q => (mt.mp q) h
    have e2 : (if κ ∈ R then (1 : Int32) else 0) = 1 := if_pos h
    rw [e1, e2]; rfl
  · have e1 : (if ex_mt ls R er = [] then (0 : Int32) else 1) = 0 := if_pos (mt.mpr h)
    have e2 : (if κ ∈ R then (1 : Int32) else 0) = 0 := if_neg h
    rw [e1, e2]; rfl
theorem sm_apply_flat (k wb : Nat) (g : ay_Row → List ay_Row) : ∀ E : List ay_Row, sm_apply k wb E g = E.flatMap fun r => sm_apply k wb [r] g
  | [] => by unfold sm_apply; repeat' split
             all_goals rfl
  | r :: E => by
    rw [List.flatMap_cons, ← sm_apply_flat k wb g E, ← sm_apply_app]; rfl
theorem lw_join {X R : List ay_Row} {g : ay_Row → List ay_Row} {n k wb : Nat} {ls : List Int32} {v : Int32} {er κ : ay_Row} (hX : sl_W n X) (hn : X.Nodup) (hR : R.Perm (lw_J X g)) (hl : ls.length = n) (hk : ex_key ls er = κ) (hm : κ ∈ X) (h3 : k ≤ 3) (hv : k = 1 → v = (-2147483648 : Int32)) : (ex_join1 k ls v (n + wb) R er).Perm (sm_apply k wb [er] fun _ => g κ) := by
  have mt : (ex_mt ls R er).Perm ((g κ).map fun r => κ ++ r) := by
    unfold ex_mt
    rw [hk, hl]
    refine (hR.filter _).trans (List.Perm.of_eq ?_)
    exact lw_J_mt hX hn hm
  have m0 : ex_mt ls R er = [] ↔ g κ = [] := by
    rw [sm_nil_perm mt]
    exact List.map_eq_nil_iff
  have mm : ((ex_mt ls R er).map fun y => er ++ y.drop ls.length).Perm ((g κ).map fun s => er ++ s) := by
    refine (mt.map _).trans (List.Perm.of_eq ?_)
    rw [List.map_map, hl]
    exact List.map_congr_left fun r _ => by
      show er ++ (κ ++ r).drop n = er ++ r
      rw [lw_dr (hX κ hm)]
  unfold ex_join1
  have o : k = 0 ∨ k = 1 ∨ k = 2 ∨ k = 3 := by omega
  by_cases h : g κ = []
  · have h' := m0.mpr h
    rcases o with rfl | rfl | rfl | rfl
    · rw [if_neg (by rw [h']; simp), if_neg (by rw [h']; simp), sm_apply_0, h]; exact List.Perm.nil
    · rw [if_neg (by rw [h']; simp), if_pos (by simp), sm_apply_1, if_pos h]
      unfold ex_more
      rw [if_pos (by omega), if_neg (by omega), hl, Nat.add_sub_cancel_left, hv rfl]
    · have e := sm_apply_23 (k := 2) (wb := wb) (r := er) (g := fun _ => g κ) (Or.inl rfl)
      rw [if_neg (by simp [h])] at e
      rw [if_neg (by omega), if_neg (by rw [h']; simp), e]
    · have e := sm_apply_23 (k := 3) (wb := wb) (r := er) (g := fun _ => g κ) (Or.inr rfl)
      rw [if_pos (by simp [h])] at e
      rw [if_neg (by omega), if_pos (by rw [h']; simp), e]
      unfold ex_more
      rw [if_neg (by omega), if_neg (by omega), List.replicate_zero, List.append_nil]
  · have h' : ex_mt ls R er ≠ [] := fun q => h (m0.mp q)
    rcases o with rfl | rfl | rfl | rfl
    · rw [if_pos ⟨by omega, h'⟩, sm_apply_0]; exact mm
    · rw [if_pos ⟨by omega, h'⟩, sm_apply_1, if_neg h]; exact mm
    · have e := sm_apply_23 (k := 2) (wb := wb) (r := er) (g := fun _ => g κ) (Or.inl rfl)
      rw [if_pos (by simp [h])] at e
      rw [if_neg (by omega), if_pos (Or.inr (Or.inr (Or.inl ⟨rfl, h'⟩))), e]
      unfold ex_more
      rw [if_neg (by omega), if_neg (by omega), List.replicate_zero, List.append_nil]
    · have e := sm_apply_23 (k := 3) (wb := wb) (r := er) (g := fun _ => g κ) (Or.inr rfl)
      rw [if_neg (by simp [h])] at e
      rw [if_neg (by omega), if_neg (by simp [h']), e]
theorem lw_key_app {n : Nat} {cs : List Nat} {xr r : ay_Row} (hx : xr.length = n) (hn : n < 2 ^ 30) (hc : ∀ c, c ∈ cs → c < 2 ^ 30) : ex_key (cp_sp n ++ cs.map fun c => nI (n + c)) (xr ++ r) = xr ++ cs.map fun c => r.getD c 0 := by
  have e1 : ex_key (cp_sp n ++ cs.map fun c => nI (n + c)) (xr ++ r) = ex_key (cp_sp n) (xr ++ r) ++ ex_key (cs.map fun c => nI (n + c)) (xr ++ r) := by unfold ex_key; rw [List.map_append]
  rw [e1, ex_key_sp (by rw [List.length_append]; omega) (by omega), lw_tk hx]
  congr 1
  unfold ex_key
  rw [List.map_map]
  refine List.map_congr_left fun c h => ?_
  have := hc c h
  show (xr ++ r).getD (nI (n + c)).toNatClampNeg 0 = _
  rw [nI_clamp (by omega), lw_gd hx]
theorem lw_cols {n wa : Nat} {cs : List Nat} (hc : ∀ c, c ∈ cs → c < wa) : ∀ c, c ∈ cp_sp n ++ cs.map (fun c => nI (n + c)) → ∃ j, c = nI j ∧ j < n + wa := fun c h => by
  rcases List.mem_append.mp h with h | h
  · obtain ⟨j, h1, h2⟩ := cp_sp_mem (Nat.le_refl n) c h
    exact ⟨j, h1, by omega⟩
  · obtain ⟨j, h1, rfl⟩ := List.mem_map.mp h
    exact ⟨n + j, rfl, by have := hc j h1; omega⟩
theorem lw_J_J {X : List ay_Row} {f g : ay_Row → List ay_Row} : lw_J (lw_J X f) g = lw_J X fun x => lw_J (f x) fun r => g (x ++ r) := by
  induction X with
  | nil => rfl
  | cons x X ih =>
    rw [lw_J_cons, lw_J_cons]
    have e : ∀ A B : List ay_Row, lw_J (A ++ B) g = lw_J A g ++ lw_J B g := fun A B => by unfold lw_J; rw [List.flatMap_append]
    rw [e, ih]
    congr 1
    generalize f x = l
    induction l with
    | nil => rfl
    | cons r l ih2 =>
      rw [List.map_cons, lw_J_cons, lw_J_cons, ih2, List.map_append, List.map_map]
      congr 1
      exact List.map_congr_left fun s _ => List.append_assoc ..
theorem lw_apply_map {k wb : Nat} {x r : ay_Row} {G : List ay_Row} (hk : k ≤ 3) : sm_apply k wb [x ++ r] (fun _ => G) = (sm_apply k wb [r] fun _ => G).map fun s => x ++ s := by
  have o : k = 0 ∨ k = 1 ∨ k = 2 ∨ k = 3 := by omega
  rcases o with rfl | rfl | rfl | rfl
  · rw [sm_apply_0, sm_apply_0, List.map_map]
    exact List.map_congr_left fun s _ => List.append_assoc ..
  · rw [sm_apply_1, sm_apply_1]
    split
    · rw [List.map_cons, List.map_nil, List.append_assoc]
    · rw [List.map_map]
      exact List.map_congr_left fun s _ => List.append_assoc ..
  · rw [sm_apply_23 (Or.inl rfl), sm_apply_23 (Or.inl rfl)]; split <;> rfl
  · rw [sm_apply_23 (Or.inr rfl), sm_apply_23 (Or.inr rfl)]; split <;> rfl
theorem sm_apply_pt {k wb : Nat} {r : ay_Row} {h : ay_Row → List ay_Row} (hk : k ≤ 3) : sm_apply k wb [r] (fun _ => h r) = sm_apply k wb [r] h := by
  have o : k = 0 ∨ k = 1 ∨ k = 2 ∨ k = 3 := by omega
  rcases o with rfl | rfl | rfl | rfl
  · rw [sm_apply_0, sm_apply_0]
  · rw [sm_apply_1, sm_apply_1]
  · rw [sm_apply_23 (Or.inl rfl), sm_apply_23 (Or.inl rfl)]
  · rw [sm_apply_23 (Or.inr rfl), sm_apply_23 (Or.inr rfl)]
