/-! LAW: bags, step by step -/
section LW
variable (T : Nat → sm_T) (tc : Nat → Nat) (nt N : Nat) (tb : Nat → List ay_Row) (tr : Nat → Nat)
/-- a scope: rows that are unlike, and where they keep what is looked at -/
def lw_X (L : List cp_St) (x : cp_X) (Xr : List ay_Row) (l : Nat) : Prop := cv_at tc tb L x.2.1 x.2.2.1 Xr ∧ sl_W x.2.2.1 Xr ∧ Xr.Nodup ∧ x.2.2.1 ≤ 32 ∧ ∀ k, k < 32 → l.testBit k = true → x.2.2.2 k < x.2.2.1
def lw_I (L : List cp_St) (X : cv_X) (B : Nat) : Prop := cv tc tb nt L X B ∧ (0, 0) ∈ X ∧ cv_at tc tb L 0 0 [[]]
def lw_pre (x : cp_X) (L : List cp_St) (X : cv_X) (Xr : List ay_Row) (m B t : Nat) : Prop := lw_I tc nt tb L X B ∧ cv_in X x.2.1 ∧ lw_X tc tb L x Xr (sm_l (T t)) ∧ 1 ≤ m ∧ Xr.length ≤ m ∧ m * sm_zc T tr t ≤ 3000 ∧ cv_n X + 150 * (m * sm_zc T tr t) ≤ B
def lw_P (δ : Nat) (x : cp_X) (L : List cp_St) (u : Nat) (X : cv_X) (Xr : List ay_Row) (B t : Nat) (r : Nat × cp_S) : Prop :=
  ∃ K R, r.2.1 = L ++ K ∧ cv tc tb nt (L ++ K) ((r.1, R.length * (x.2.2.1 + sm_w (T t))) :: X) B ∧ cv_at tc tb (L ++ K) r.1 (x.2.2.1 + sm_w (T t)) R ∧ R.Perm (lw_J Xr fun xr => (sm_S T tb t (lw_E x.2.2.2 xr)).2) ∧ K.length + δ ≤ 10 * sm_zc T tr t ∧ r.2.2 + 10 ≤ u + 174 * sm_zc T tr t
def lw_BC (bag : cp_B) (t : Nat) : Prop := ∀ x L u X Xr m B, lw_pre T tc nt tb tr x L X Xr m B t → lw_P T tc nt tb tr 4 x L u X Xr B t (bag t x (L, u))
/-- what stands at the beginning -/
def lw_H : Prop := sm_wf T tc nt N ∧ ∀ k, k < nt → k < 6 ∧ (tb k).length = tr k ∧ sl_W (tc k) (tb k) ∧ (tb k).length ≤ 24 ∧ tc k ≤ 4
end LW
section LW
variable {T : Nat → sm_T} {tc : Nat → Nat} {nt N : Nat} {tb : Nat → List ay_Row} {tr : Nat → Nat}
theorem lw_X_mv {L : List cp_St} {x : cp_X} {Xr : List ay_Row} {l l' : Nat} (h : lw_X tc tb L x Xr l) (K : List cp_St) (hl : ∀ k, l'.testBit k = true → l.testBit k = true) : lw_X tc tb (L ++ K) x Xr l' := ⟨cv_at_app h.1 K, h.2.1, h.2.2.1, h.2.2.2.1, fun k h1 h2 => h.2.2.2.2 k h1 (hl k h2)⟩
theorem lw_I_mv {L : List cp_St} {X X' : cv_X} {B : Nat} (h : lw_I tc nt tb L X B) {K : List cp_St} (h' : cv tc tb nt (L ++ K) X' B) (hz : (0, 0) ∈ X') : lw_I tc nt tb (L ++ K) X' B := ⟨h', hz, cv_at_app h.2.2 K⟩
theorem lw_cells {n a b w : Nat} (h : n ≤ a) (hw : w ≤ b) : n * w ≤ b * a := by rw [Nat.mul_comm b]; exact Nat.mul_le_mul h hw
/-- a part that is a bag, in the same scope -/
theorem lw_call {bag : cp_B} {s : Nat} {x : cp_X} {L : List cp_St} {X : cv_X} {Xr : List ay_Row} {m B : Nat} (H : lw_H T tc nt N tb tr) (hs : s < N) (hk : sm_sort (sm_k (T s)) = 2) (hb : lw_BC T tc nt tb tr bag s) (hp : lw_pre T tc nt tb tr x L X Xr m B s) (u : Nat) :
    ∃ s' K R u', bag s x (L, u) = (s', (L ++ K, u')) ∧ lw_I tc nt tb (L ++ K) ((s', R.length * (x.2.2.1 + sm_w (T s))) :: X) B ∧ cv_at tc tb (L ++ K) s' (x.2.2.1 + sm_w (T s)) R ∧ R.Perm (lw_J Xr fun xr => (sm_S T tb s (lw_E x.2.2.2 xr)).2) ∧ R.length ≤ m * sm_zs T tr s ∧ R.length * (x.2.2.1 + sm_w (T s)) ≤ 40 * (m * sm_zs T tr s) ∧ m * sm_zs T tr s ≤ m * sm_zc T tr s ∧ K.length + 4 ≤ 10 * sm_zc T tr s ∧ u' + 10 ≤ u + 174 * sm_zc T tr s := by
  obtain ⟨K, R, h1, h2, h3, h4, h5, h6⟩ := hb x L u X Xr m B hp
  obtain ⟨p1, p2, p3, p4, p5, p6, p7⟩ := hp
  have zc3 : sm_zc T tr s ≤ 3000 := by
    have : 1 * sm_zc T tr s ≤ m * sm_zc T tr s := Nat.mul_le_mul_right _ p4
    omega
  have sz := sm_sizes H.1 (fun k hk => ⟨(H.2 k hk).1, (H.2 k hk).2.1⟩) s hs zc3 hk
  have rl : R.length ≤ m * sm_zs T tr s := by
    rw [h4.length_eq]
    refine Nat.le_trans (lw_J_len (b := sm_zs T tr s) fun xr _ => sz.2.2 _) (Nat.mul_le_mul_right _ p5)
  refine ⟨_, K, R, _, ?_, lw_I_mv p1 h2 (by simp [p1.2.1]), h3, h4, rl, ?_, Nat.mul_le_mul_left _ sz.1, h5, h6⟩
  · rw [← h1]
  · exact lw_cells rl (by have := p3.2.2.2.1; have := (H.1 s hs).2.1; omega)
theorem lw_z3 {m c : Nat} (h1 : 1 ≤ m) (h : m * c ≤ 3000) : c ≤ 3000 := by
  have : 1 * c ≤ m * c := Nat.mul_le_mul_right _ h1
  omega
variable {bag : cp_B} {att : cp_A} {t : Nat} {x : cp_X} {L : List cp_St} {u : Nat} {X : cv_X} {Xr : List ay_Row} {m B : Nat}
theorem lw_scan (H : lw_H T tc nt N tb tr) (ht : t < N) (hk : sm_k (T t) = 11) (hp : lw_pre T tc nt tb tr x L X Xr m B t) : lw_P T tc nt tb tr 5 x L u X Xr B t (cp_sw T bag att t x (L, u)) := by
  obtain ⟨p1, p2, p3, p4, p5, p6, p7⟩ := hp
  have z3 := lw_z3 p4 p6
  obtain ⟨-, -, -, k, k1, k2, k3⟩ := sm_wf11 (H.1 t ht).1 hk
  obtain ⟨t1, t2, t3, t4, t5⟩ := H.2 k k1
  have cc := sm_zcS H.1 ht z3 hk
  have zs := sm_zsS (tr := tr) H.1 ht hk
  rw [k2, nI_clamp (by omega), ← t2] at zs
  have mz : m * sm_zc T tr t = m * (tb k).length + m := by rw [cc, zs, Nat.mul_add, Nat.mul_one]
  have x32 := p3.2.2.2.1
  have c1 : (tb k).length * tc k ≤ 4 * (tb k).length := lw_cells (Nat.le_refl _) t5
  have c0 : 1 * (tb k).length ≤ m * (tb k).length := Nat.mul_le_mul_right _ p4
  obtain ⟨e1, a1⟩ := em_laid (Z := X) p1.1 k1 t1 t3 t4 t5 (by omega) (fun _ h => h)
  have c2 : Xr.length * (tb k).length ≤ m * (tb k).length := Nat.mul_le_mul_right _ p5
  have c3 : Xr.length * (tb k).length * (x.2.2.1 + tc k) ≤ 36 * (m * (tb k).length) := lw_cells c2 (by omega)
  obtain ⟨e2, a2⟩ := em_cross (Z := X) e1 (cv_in_tl p2) (cv_at_app p3.1 _) cv_in_cons a1 (by omega) (by omega) (by rw [cv_n_cons]; show _ + _ + _ ≤ _; omega) (fun _ h => by simp [h])
  rw [cp_sw11 hk, k2]
  refine ⟨[cp_laid (nI k), cp_set 2 x.2.1 L.length], lw_J Xr fun _ => tb k, rfl, ?_, ?_, ?_, by show 2 + 5 ≤ _; omega, by show u + 10 ≤ _; omega⟩
  · rw [List.append_assoc] at e2
    rw [List.length_append] at e2
    rw [k3]; exact e2
  · rw [List.append_assoc] at a2
    rw [List.length_append] at a2
    rw [k3]; exact a2
  · refine List.Perm.of_eq (lw_J_congr fun xr _ => ?_)
    rw [sm_S_eq H.1 ht, sm_body11 hk, k2, nI_clamp (by omega)]
/-- the last step of a bag -/
theorem lw_fin {K : List cp_St} {st : cp_St} {w2 u2 : Nat} {R2 : List ay_Row} {Z : cv_X} (hx : x.2.2.1 + sm_w (T t) = w2) (e : em_P tc tb nt (L ++ K) st Z B w2 R2) (hZ : ∀ p, p ∈ X → p ∈ Z) (hR : R2.Perm (lw_J Xr fun xr => (sm_S T tb t (lw_E x.2.2.2 xr)).2)) (hK : K.length + 6 ≤ 10 * sm_zc T tr t) (hu : u2 + 10 ≤ u + 174 * sm_zc T tr t) : lw_P T tc nt tb tr 5 x L u X Xr B t ((L ++ K).length, ((L ++ K) ++ [st], u2)) := by
  subst hx
  refine ⟨K ++ [st], R2, by rw [List.append_assoc], ?_, ?_, hR, by rw [List.length_append, List.length_singleton]; omega, hu⟩
  · rw [← List.append_assoc]
    refine cv_sub e.1 fun p hp => ?_
    rcases List.mem_cons.mp hp with rfl | hp
    · simp
    · simp [hZ p hp]
  · rw [← List.append_assoc]; exact e.2
theorem lw_X_sub {l l' : Nat} (h : lw_X tc tb L x Xr l) (hl : ∀ k, l'.testBit k = true → l.testBit k = true) : lw_X tc tb L x Xr l' := ⟨h.1, h.2.1, h.2.2.1, h.2.2.2.1, fun k h1 h2 => h.2.2.2.2 k h1 (hl k h2)⟩
theorem lw_only (H : lw_H T tc nt N tb tr) (ht : t < N) (hk : sm_k (T t) = 14) (ih : ∀ s, s < t → sm_sort (sm_k (T s)) = 2 → lw_BC T tc nt tb tr bag s) (hp : lw_pre T tc nt tb tr x L X Xr m B t) : lw_P T tc nt tb tr 5 x L u X Xr B t (cp_sw T bag att t x (L, u)) := by
  obtain ⟨p1, p2, p3, p4, p5, p6, p7⟩ := hp
  have z3 := lw_z3 p4 p6
  have q := sm_wf14 (H.1 t ht).1 hk
  have alt := q.1.2.1
  have cc := sm_zc1 H.1 ht z3 q.2.1 (by omega) (by omega) (by rw [hk]; rfl) (by omega)
  have mz : m * sm_zc T tr t = m + m * sm_zc T tr (sm_a (T t)) := by rw [cc, Nat.mul_add, Nat.mul_one]
  have x32 := p3.2.2.2.1
  have w8 := (H.1 t ht).2.1
  have c8 : sm_w (T t) = sm_c (T t) := q.2.2.1
  have zp := sm_zc_pos (tr := tr) H.1 (show sm_a (T t) < N by omega)
  obtain ⟨s', K, R, u', h1, h2, h3, h4, h5, h6, h7, h8, h9⟩ := lw_call H (show sm_a (T t) < N by omega) q.1.2.2 (ih _ alt q.1.2.2) (x := x) (m := m) ⟨p1, p2, lw_X_sub p3 (fun k h => by rw [q.2.2.2.2]; exact h), p4, p5, by omega, by omega⟩ u
  have hcs : ∀ c, c ∈ (List.range (sm_c (T t))).map (sm_col (sm_n (T t))) → c < sm_w (T (sm_a (T t))) := fun c hc => by
    obtain ⟨j, hj, rfl⟩ := List.mem_map.mp hc
    exact q.2.2.2.1 j (List.mem_range.mp hj)
  have el : cp_sp x.2.2.1 ++ (List.range (sm_c (T t))).map (fun k => nI (x.2.2.1 + sm_col (sm_n (T t)) k)) = cp_sp x.2.2.1 ++ ((List.range (sm_c (T t))).map (sm_col (sm_n (T t)))).map fun c => nI (x.2.2.1 + c) := by rw [List.map_map]; rfl
  have ll : (cp_sp x.2.2.1 ++ ((List.range (sm_c (T t))).map (sm_col (sm_n (T t)))).map fun c => nI (x.2.2.1 + c)).length = x.2.2.1 + sm_w (T t) := by
    rw [List.length_append, cp_sp_len, List.length_map, List.length_map, List.length_range, c8]
  have cel : R.length * (x.2.2.1 + sm_w (T t)) ≤ 40 * (m * sm_zs T tr (sm_a (T t))) := lw_cells h5 (by omega)
  rw [cp_sw14 hk, h1, el]
  have e := em_pick (Z := X) h2.1 cv_in_cons h3 (lw_cols hcs) (by rw [ll]; omega) (by rw [ll, cv_n_cons]; show _ + _ + _ ≤ _; omega) (fun _ h => by simp [h])
  rw [ll] at e
  refine lw_fin rfl e (fun _ h => h) ?_ (by omega) (by show u' + x.2.2.1 + sm_c (T t) + 10 ≤ _; omega)
  refine (h4.map _).trans (List.Perm.of_eq ?_)
  rw [lw_J_map (h' := fun _ => sm_only (sm_n (T t)) (sm_c (T t))) fun xr hx r _ => ?_]
  · refine lw_J_congr fun xr _ => ?_
    rw [sm_S_eq H.1 ht, sm_body14 hk]
  · rw [lw_key_app (p3.2.1 xr hx) (by omega) (fun c hc => by have := hcs c hc; have := (H.1 (sm_a (T t)) (by omega)).2.1; omega), List.map_map]; rfl
theorem lw_once (H : lw_H T tc nt N tb tr) (ht : t < N) (hk : sm_k (T t) = 18) (ih : ∀ s, s < t → sm_sort (sm_k (T s)) = 2 → lw_BC T tc nt tb tr bag s) (hp : lw_pre T tc nt tb tr x L X Xr m B t) : lw_P T tc nt tb tr 5 x L u X Xr B t (cp_sw T bag att t x (L, u)) := by
  obtain ⟨p1, p2, p3, p4, p5, p6, p7⟩ := hp
  have z3 := lw_z3 p4 p6
  have q := sm_wf18 (H.1 t ht).1 hk
  have alt := q.1.2.1
  have cc := sm_zc1 H.1 ht z3 q.2.1 (by omega) (by omega) (by rw [hk]; rfl) (by omega)
  have mz : m * sm_zc T tr t = m + m * sm_zc T tr (sm_a (T t)) := by rw [cc, Nat.mul_add, Nat.mul_one]
  have x32 := p3.2.2.2.1
  have w8 := (H.1 t ht).2.1
  have ew : sm_w (T t) = sm_w (T (sm_a (T t))) := q.2.2.1
  have zp := sm_zc_pos (tr := tr) H.1 (show sm_a (T t) < N by omega)
  obtain ⟨s', K, R, u', h1, h2, h3, h4, h5, h6, h7, h8, h9⟩ := lw_call H (show sm_a (T t) < N by omega) q.1.2.2 (ih _ alt q.1.2.2) (x := x) (m := m) ⟨p1, p2, lw_X_sub p3 (fun k h => by rw [q.2.2.2]; exact h), p4, p5, by omega, by omega⟩ u
  rw [cp_sw18 hk, h1]
  have e := em_uniq (Z := X) h2.1 cv_in_cons h3 (by omega) (by rw [cv_n_cons]; show _ + _ + _ ≤ _; omega) (fun _ h => by simp [h])
  refine lw_fin (by rw [ew]) e (fun _ h => h) ?_ (by omega) (by show u' + 10 ≤ _; omega)
  refine (sm_once_perm h4).trans ((lw_J_once p3.2.1 p3.2.2.1).trans (List.Perm.of_eq ?_))
  refine lw_J_congr fun xr _ => ?_
  rw [sm_S_eq H.1 ht, sm_body18 hk]
theorem lw_first (H : lw_H T tc nt N tb tr) (ht : t < N) (hk : sm_k (T t) = 19) (ih : ∀ s, s < t → sm_sort (sm_k (T s)) = 2 → lw_BC T tc nt tb tr bag s) (hp : lw_pre T tc nt tb tr x L X Xr m B t) : lw_P T tc nt tb tr 5 x L u X Xr B t (cp_sw T bag att t x (L, u)) := by
  obtain ⟨p1, p2, p3, p4, p5, p6, p7⟩ := hp
  have z3 := lw_z3 p4 p6
  have q := sm_wf19 (H.1 t ht).1 hk
  obtain ⟨n, n1, n2, n3⟩ := q.2.2.2.2
  have alt := q.1.2.1
  have cc := sm_zc1 H.1 ht z3 q.2.1 (by omega) (by omega) (by rw [hk]; rfl) (by omega)
  have mz : m * sm_zc T tr t = m + m * sm_zc T tr (sm_a (T t)) := by rw [cc, Nat.mul_add, Nat.mul_one]
  have x32 := p3.2.2.2.1
  have ew : sm_w (T t) = sm_w (T (sm_a (T t))) := q.2.2.1
  have zp := sm_zc_pos (tr := tr) H.1 (show sm_a (T t) < N by omega)
  obtain ⟨s', K, R, u', h1, h2, h3, h4, h5, h6, h7, h8, h9⟩ := lw_call H (show sm_a (T t) < N by omega) q.1.2.2 (ih _ alt q.1.2.2) (x := x) (m := m) ⟨p1, p2, lw_X_sub p3 (fun k h => by rw [q.2.2.2.1]; exact h), p4, p5, by omega, by omega⟩ u
  rw [cp_sw19 hk, h1, n3]
  have e := em_top (Z := X) (n := x.2.2.1) (m := n) h2.1 cv_in_cons h3 (by omega) (by omega) (by rw [cv_n_cons]; show _ + _ + _ ≤ _; omega) (fun _ h => by simp [h])
  refine lw_fin (by rw [ew]) e (fun _ h => h) ?_ (by omega) (by show u' + 10 ≤ _; omega)
  rw [sm_srt_congr h4, lw_J_srt p3.2.1 p3.2.2.1, lw_top n1 _ _ _ (sl_W_sub p3.2.1 fun r hr => (sm_srt_perm Xr).mem_iff.mp hr) ((sm_srt_perm Xr).nodup_iff.mpr p3.2.2.1) (fun _ h => by cases h)]
  refine lw_J_perm (sm_srt_perm Xr) fun xr _ => List.Perm.of_eq ?_
  rw [sm_S_eq H.1 ht, sm_body19 hk, n3, nI_clamp (by omega)]; rfl
/-- two parts that are bags, in the same scope -/
theorem lw_call2 (H : lw_H T tc nt N tb tr) (ht : t < N) {a b : Nat} (ha : a < t) (hb : b < t) (ka : sm_sort (sm_k (T a)) = 2) (kb : sm_sort (sm_k (T b)) = 2) (ih : ∀ s, s < t → sm_sort (sm_k (T s)) = 2 → lw_BC T tc nt tb tr bag s) (hp : lw_pre T tc nt tb tr x L X Xr m B t) (la : ∀ k, (sm_l (T a)).testBit k = true → (sm_l (T t)).testBit k = true) (lb : ∀ k, (sm_l (T b)).testBit k = true → (sm_l (T t)).testBit k = true) (mz : m + m * sm_zc T tr a + m * sm_zc T tr b ≤ m * sm_zc T tr t) (u : Nat) :
    ∃ s1 K1 R1 u1 s2 K2 R2 u2, bag a x (L, u) = (s1, (L ++ K1, u1)) ∧ bag b x (L ++ K1, u1) = (s2, (L ++ (K1 ++ K2), u2)) ∧ lw_I tc nt tb (L ++ (K1 ++ K2)) ((s2, R2.length * (x.2.2.1 + sm_w (T b))) :: (s1, R1.length * (x.2.2.1 + sm_w (T a))) :: X) B ∧ cv_at tc tb (L ++ (K1 ++ K2)) s1 (x.2.2.1 + sm_w (T a)) R1 ∧ cv_at tc tb (L ++ (K1 ++ K2)) s2 (x.2.2.1 + sm_w (T b)) R2 ∧ R1.Perm (lw_J Xr fun xr => (sm_S T tb a (lw_E x.2.2.2 xr)).2) ∧ R2.Perm (lw_J Xr fun xr => (sm_S T tb b (lw_E x.2.2.2 xr)).2) ∧ R1.length ≤ m * sm_zs T tr a ∧ R2.length ≤ m * sm_zs T tr b ∧ R1.length * (x.2.2.1 + sm_w (T a)) ≤ 40 * (m * sm_zs T tr a) ∧ R2.length * (x.2.2.1 + sm_w (T b)) ≤ 40 * (m * sm_zs T tr b) ∧ m * sm_zs T tr a ≤ m * sm_zc T tr a ∧ m * sm_zs T tr b ≤ m * sm_zc T tr b ∧ (K1 ++ K2).length + 8 ≤ 10 * sm_zc T tr a + 10 * sm_zc T tr b ∧ u2 + 20 ≤ u + 174 * sm_zc T tr a + 174 * sm_zc T tr b := by
  obtain ⟨p1, p2, p3, p4, p5, p6, p7⟩ := hp
  obtain ⟨s1, K1, R1, u1, h1, h2, h3, h4, h5, h6, h7, h8, h9⟩ := lw_call H (show a < N by omega) ka (ih _ ha ka) (x := x) (m := m) ⟨p1, p2, lw_X_sub p3 la, p4, p5, by omega, by omega⟩ u
  obtain ⟨s2, K2, R2, u2, g1, g2, g3, g4, g5, g6, g7, g8, g9⟩ := lw_call H (show b < N by omega) kb (ih _ hb kb) (x := x) (m := m) ⟨h2, cv_in_tl p2, lw_X_mv p3 _ lb, p4, p5, by omega, by rw [cv_n_cons]; show _ + _ + _ ≤ _; omega⟩ u1
  rw [List.append_assoc] at g1 g2 g3
  have h3' := cv_at_app h3 K2
  rw [List.append_assoc] at h3'
  exact ⟨s1, K1, R1, u1, s2, K2, R2, u2, h1, g1, g2, h3', g3, h4, g4, h5, g5, h6, g6, h7, g7, by rw [List.length_append]; omega, by omega⟩
theorem lw_both (H : lw_H T tc nt N tb tr) (ht : t < N) (hk : sm_k (T t) = 17) (ih : ∀ s, s < t → sm_sort (sm_k (T s)) = 2 → lw_BC T tc nt tb tr bag s) (hp : lw_pre T tc nt tb tr x L X Xr m B t) : lw_P T tc nt tb tr 5 x L u X Xr B t (cp_sw T bag att t x (L, u)) := by
  obtain ⟨p1, p2, p3, p4, p5, p6, p7⟩ := id hp
  have z3 := lw_z3 p4 p6
  have q := sm_wf17 (H.1 t ht).1 hk
  have cc := sm_zc2 H.1 ht z3 q.2.1.1 (by omega) (by omega) (by rw [hk]; rfl) (by omega)
  have mz : m * sm_zc T tr t = m + m * sm_zc T tr (sm_a (T t)) + m * sm_zc T tr (sm_b (T t)) := by rw [cc, Nat.mul_add, Nat.mul_add, Nat.mul_one]
  have x32 := p3.2.2.2.1
  have w8 := (H.1 t ht).2.1
  have ew : sm_w (T t) = sm_w (T (sm_a (T t))) := q.2.2.2.2.1
  have ew2 : sm_w (T (sm_b (T t))) = sm_w (T (sm_a (T t))) := q.2.2.2.1.symm
  obtain ⟨s1, K1, R1, u1, s2, K2, R2, u2, h1, h2, h3, h4, h5, h6, h7, h8, h9, h10, h11, h12, h13, h14, h15⟩ := lw_call2 H ht q.1.2.1 q.2.1.2.1 q.1.2.2 q.2.1.2.2 ih hp (my_or1 q.2.2.2.2.2) (my_or2 q.2.2.2.2.2) (by omega) u
  rw [cp_sw17 hk, h1]
  dsimp only
  rw [h2]
  rw [ew2] at h5 h11
  have cA : (R1.length + R2.length) * (x.2.2.1 + sm_w (T (sm_a (T t)))) = R1.length * (x.2.2.1 + sm_w (T (sm_a (T t)))) + R2.length * (x.2.2.1 + sm_w (T (sm_a (T t)))) := Nat.add_mul ..
  have hB := h3.1
  rw [ew2] at hB
  have fin : ∀ {R : List ay_Row}, R.Perm (lw_J Xr fun xr => sm_both (sm_o (T t)) (sm_S T tb (sm_a (T t)) (lw_E x.2.2.2 xr)).2 (sm_S T tb (sm_b (T t)) (lw_E x.2.2.2 xr)).2) → R.Perm (lw_J Xr fun xr => (sm_S T tb t (lw_E x.2.2.2 xr)).2) := fun h => by
    refine h.trans (List.Perm.of_eq (lw_J_congr fun xr _ => ?_))
    rw [sm_S_eq H.1 ht, sm_body17 hk]
  have o2 := q.2.2.1
  have o : sm_o (T t) = 0 ∨ sm_o (T t) = 1 ∨ sm_o (T t) = 2 := by omega
  rcases o with o | o
  · have e := em_app (Z := X) hB (cv_in_tl cv_in_cons) h4 cv_in_cons h5 (by omega) (by rw [cv_n_cons, cv_n_cons, cA]; show _ + (_ + _) + _ ≤ _; omega) (fun _ h => by simp [h])
    rw [o]
    refine lw_fin (by rw [ew]) e (fun _ h => h) (fin ?_) (by omega) (by show u2 + 10 ≤ _; omega)
    rw [o]
    refine (h6.append h7).trans (lw_J_app.trans (List.Perm.of_eq (lw_J_congr fun xr _ => ?_)))
    unfold sm_both; rw [if_pos rfl]
  · have e := em_apart (Z := X) o hB (cv_in_tl cv_in_cons) h4 cv_in_cons h5 (by omega) (by rw [cv_n_cons, cv_n_cons]; show _ + (_ + _) + _ ≤ _; omega) (fun _ h => by simp [h])
    exact lw_fin (by rw [ew]) e (fun _ h => h) (fin (lw_apart p3.2.1 p3.2.2.1 h6 h7 o)) (by omega) (by show u2 + 10 ≤ _; omega)
end LW
