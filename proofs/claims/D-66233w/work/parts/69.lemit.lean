/-! LAW: one step more, kind by kind -/
section EM
variable {tc : Nat → Nat} {tb : Nat → List ay_Row} {nt : Nat} {L : List cp_St} {X Z : cv_X} {B : Nat}
theorem cv_W (h : cv tc tb nt L X B) {s w : Nat} {R : List ay_Row} (ha : cv_at tc tb L s w R) : sl_W w R := by
  obtain ⟨st, hs⟩ := sl_idx ha.1
  have := (h.2 s st hs).2.2.1
  rwa [ha.2] at this
theorem cv_w (h : cv tc tb nt L X B) {s w : Nat} {R : List ay_Row} (ha : cv_at tc tb L s w R) : R.length ≤ 8192 ∧ w < 100000 := by
  obtain ⟨st, hs⟩ := sl_idx ha.1
  have h1 := (h.2 s st hs).2.2.2.1
  have h2 := (h.2 s st hs).2.2.2.2.1
  rw [ha.2] at h1 h2
  exact ⟨h1, h2⟩
abbrev em_P (tc : Nat → Nat) (tb : Nat → List ay_Row) (nt : Nat) (L : List cp_St) (st : cp_St) (Z : cv_X) (B w : Nat) (R : List ay_Row) : Prop := cv tc tb nt (L ++ [st]) ((L.length, R.length * w) :: Z) B ∧ cv_at tc tb (L ++ [st]) L.length w R
theorem em_pick {a wa : Nat} {Ra : List ay_Row} {ls : List Int32} (h : cv tc tb nt L X B) (hi : cv_in X a) (ha : cv_at tc tb L a wa Ra) (hl : ∀ c, c ∈ ls → ∃ j, c = nI j ∧ j < wa) (hn : ls.length < 100000) (hB : cv_n X + Ra.length * ls.length ≤ B) (hZ : ∀ p, p ∈ Z → p ∈ X) : em_P tc tb nt L (cp_pick a ls) Z B ls.length (Ra.map (ex_key ls)) := by
  refine cv_emit h ?_ ⟨a, rfl, rfl, ha.1, rfl, ?_⟩ (fun r hr => ?_) (by rw [List.length_map]; exact (cv_w h ha).1) hn (fun b hb => ?_) (by rw [List.length_map]; exact hB) hZ
  · show ((ls.length, (ex_at tc tb L a).2.map (ex_key ls)) : Nat × List ay_Row) = _
    rw [ha.2]
  · rw [ha.2]; exact hl
  · obtain ⟨y, -, rfl⟩ := List.mem_map.mp hr
    unfold ex_key; rw [List.length_map]
  · rcases hb with hb | hb
    · cases hb; exact hi
    · cases hb
theorem em_uniq {a wa : Nat} {Ra : List ay_Row} (h : cv tc tb nt L X B) (hi : cv_in X a) (ha : cv_at tc tb L a wa Ra) (hw : wa ≤ 256) (hB : cv_n X + Ra.length * wa ≤ B) (hZ : ∀ p, p ∈ Z → p ∈ X) : em_P tc tb nt L (cp_uniq a) Z B wa (sm_once Ra) := by
  have hl := sm_once_len Ra
  have hl2 : (sm_once Ra).length * wa ≤ Ra.length * wa := Nat.mul_le_mul_right _ hl
  refine cv_emit h ?_ ⟨a, rfl, rfl, ha.1, ?_⟩ (sl_W_sub (cv_W h ha) fun r hr => (sm_once_mem _ _).mp hr) (Nat.le_trans hl (cv_w h ha).1) (by omega) (fun b hb => ?_) (by omega) hZ
  · show ((ex_at tc tb L a).1, sm_once (ex_at tc tb L a).2) = _
    rw [ha.2]
  · rw [ha.2]; exact hw
  · rcases hb with hb | hb
    · cases hb; exact hi
    · cases hb
theorem em_sel {a wa : Nat} {Ra : List ay_Row} {ls : List Int32} {P : ay_Row → Int32} (h : cv tc tb nt L X B) (hi : cv_in X a) (ha : cv_at tc tb L a wa Ra) (hp : ∀ x, x ∈ Ra → rk_go x ls [] [P x]) (hB : cv_n X + Ra.length * wa ≤ B) (hZ : ∀ p, p ∈ Z → p ∈ X) : em_P tc tb nt L (cp_sel a ls) Z B wa (Ra.filter fun x => P x == 1) := by
  have hW := cv_W h ha
  have hw := (cv_w h ha).2
  have hl : (Ra.filter fun x => P x == 1).length ≤ Ra.length := List.length_filter_le _ _
  have hl2 : (Ra.filter fun x => P x == 1).length * wa ≤ Ra.length * wa := Nat.mul_le_mul_right _ hl
  refine cv_emit h ?_ ⟨a, rfl, rfl, ha.1, rfl, ?_⟩ (sl_W_sub hW fun r hr => (List.mem_filter.mp hr).1) (Nat.le_trans hl (cv_w h ha).1) hw (fun b hb => ?_) (by omega) hZ
  · show ((ex_at tc tb L a).1, (ex_at tc tb L a).2.filter fun x => ex_prog ls x == 1) = _
    rw [ha.2]
    refine Prod.ext rfl (List.filter_congr fun x hx => ?_)
    unfold ex_prog
    rw [rk_go_rk (by rw [hW x hx]; exact hw) _ _ _ _ (Nat.le_refl _) (hp x hx)]; rfl
  · rw [ha.2]; exact fun x hx => ⟨_, hp x hx⟩
  · rcases hb with hb | hb
    · cases hb; exact hi
    · cases hb
theorem em_ext {a wa : Nat} {Ra : List ay_Row} {ls : List Int32} {P : ay_Row → Int32} (h : cv tc tb nt L X B) (hi : cv_in X a) (ha : cv_at tc tb L a wa Ra) (hp : ∀ x, x ∈ Ra → rk_go x ls [] [P x]) (hw1 : wa + 1 < 100000) (hB : cv_n X + Ra.length * (wa + 1) ≤ B) (hZ : ∀ p, p ∈ Z → p ∈ X) : em_P tc tb nt L (cp_ext a ls) Z B (wa + 1) (Ra.map fun x => x ++ [P x]) := by
  have hW := cv_W h ha
  have hw := (cv_w h ha).2
  refine cv_emit h ?_ ⟨a, rfl, rfl, ha.1, rfl, ?_⟩ (fun r hr => ?_) (by rw [List.length_map]; exact (cv_w h ha).1) hw1 (fun b hb => ?_) (by rw [List.length_map]; exact hB) hZ
  · show ((ex_at tc tb L a).1 + 1, (ex_at tc tb L a).2.map fun x => x ++ [ex_prog ls x]) = _
    rw [ha.2]
    refine Prod.ext rfl (List.map_congr_left fun x hx => ?_)
    unfold ex_prog
    rw [rk_go_rk (by rw [hW x hx]; exact hw) _ _ _ _ (Nat.le_refl _) (hp x hx)]; rfl
  · rw [ha.2]; exact fun x hx => ⟨_, hp x hx⟩
  · obtain ⟨y, hy, rfl⟩ := List.mem_map.mp hr
    rw [List.length_append, hW y hy]; rfl
  · rcases hb with hb | hb
    · cases hb; exact hi
    · cases hb
theorem em_two {X : cv_X} {a b : Nat} {st : cp_St} (h1 : st.2.1 = some a) (h2 : st.2.2.1 = some b) (hi : cv_in X a) (hj : cv_in X b) : ∀ c, cv_rf st c → cv_in X c := fun c hc => by
  rcases hc with hc | hc
  · rw [h1] at hc; cases hc; exact hi
  · rw [h2] at hc; cases hc; exact hj
theorem em_cross {a b wa wb : Nat} {Ra Rb : List ay_Row} (h : cv tc tb nt L X B) (hi : cv_in X a) (ha : cv_at tc tb L a wa Ra) (hj : cv_in X b) (hb : cv_at tc tb L b wb Rb) (hr : Ra.length * Rb.length ≤ 8192) (hw : wa + wb < 100000) (hB : cv_n X + Ra.length * Rb.length * (wa + wb) ≤ B) (hZ : ∀ p, p ∈ Z → p ∈ X) : em_P tc tb nt L (cp_set 2 a b) Z B (wa + wb) (lw_J Ra fun _ => Rb) := by
  have hl : (lw_J Ra fun _ => Rb).length ≤ Ra.length * Rb.length := lw_J_len fun _ _ => Nat.le_refl _
  have hl2 := Nat.mul_le_mul_right (wa + wb) hl
  refine cv_emit h ?_ ⟨a, b, rfl, rfl, ha.1, hb.1⟩ (lw_J_W (cv_W h ha) fun _ _ => cv_W h hb) (by omega) hw (em_two rfl rfl hi hj) (by omega) hZ
  show ((ex_at tc tb L a).1 + (ex_at tc tb L b).1, (ex_at tc tb L a).2.flatMap fun x => (ex_at tc tb L b).2.map fun y => x ++ y) = _
  rw [ha.2, hb.2]; rfl
theorem em_app {a b wa : Nat} {Ra Rb : List ay_Row} (h : cv tc tb nt L X B) (hi : cv_in X a) (ha : cv_at tc tb L a wa Ra) (hj : cv_in X b) (hb : cv_at tc tb L b wa Rb) (hr : Ra.length + Rb.length ≤ 8192) (hB : cv_n X + (Ra.length + Rb.length) * wa ≤ B) (hZ : ∀ p, p ∈ Z → p ∈ X) : em_P tc tb nt L (cp_set 7 a b) Z B wa (Ra ++ Rb) := by
  refine cv_emit h ?_ ⟨a, b, rfl, rfl, ha.1, hb.1, ?_⟩ (sl_W_app.mpr ⟨cv_W h ha, cv_W h hb⟩) (by rw [List.length_append]; exact hr) (cv_w h ha).2 (em_two rfl rfl hi hj) (by rw [List.length_append]; exact hB) hZ
  · show ((ex_at tc tb L a).1, (ex_at tc tb L a).2 ++ (ex_at tc tb L b).2) = _
    rw [ha.2, hb.2]
  · rw [ha.2, hb.2]
theorem ex_apart_sb : ∀ (sh : Bool) (L R : List ay_Row), (∀ x, x ∈ ex_apart sh L R → x ∈ L) ∧ (ex_apart sh L R).length ≤ L.length
  | sh, [], R => by unfold ex_apart; simp
  | sh, x :: L, R => by
    have h1 := ex_apart_sb sh L (R.erase x)
    have h2 := ex_apart_sb sh L R
    unfold ex_apart
    repeat' split
    all_goals
      refine ⟨fun y hy => ?_, ?_⟩
    · rcases List.mem_cons.mp hy with rfl | hy
      · simp
      · simp [h1.1 y hy]
    · simp only [List.length_cons]; omega
    · simp [h1.1 y hy]
    · simp only [List.length_cons]; omega
    · simp [h2.1 y hy]
    · simp only [List.length_cons]; omega
    · rcases List.mem_cons.mp hy with rfl | hy
      · simp
      · simp [h2.1 y hy]
    · simp only [List.length_cons]; omega
theorem em_apart {a b wa op : Nat} {Ra Rb : List ay_Row} (hop : op = 1 ∨ op = 2) (h : cv tc tb nt L X B) (hi : cv_in X a) (ha : cv_at tc tb L a wa Ra) (hj : cv_in X b) (hb : cv_at tc tb L b wa Rb) (hw : wa ≤ 256) (hB : cv_n X + Ra.length * wa ≤ B) (hZ : ∀ p, p ∈ Z → p ∈ X) : em_P tc tb nt L (cp_set (7 + op) a b) Z B wa (ex_apart (op == 2) Ra Rb) := by
  have hs := ex_apart_sb (op == 2) Ra Rb
  have hl2 := Nat.mul_le_mul_right wa hs.2
  refine cv_emit h ?_ ?_ (sl_W_sub (cv_W h ha) hs.1) (Nat.le_trans hs.2 (cv_w h ha).1) (cv_w h ha).2 (em_two rfl rfl hi hj) (by omega) hZ
  · rcases hop with rfl | rfl
    · show ((ex_at tc tb L a).1, ex_apart false (ex_at tc tb L a).2 (ex_at tc tb L b).2) = _
      rw [ha.2, hb.2]; rfl
    · show ((ex_at tc tb L a).1, ex_apart true (ex_at tc tb L a).2 (ex_at tc tb L b).2) = _
      rw [ha.2, hb.2]; rfl
  · rcases hop with rfl | rfl
    · exact ⟨a, b, rfl, rfl, ha.1, hb.1, by rw [ha.2, hb.2], by rw [ha.2]; exact hw⟩
    · exact ⟨a, b, rfl, rfl, ha.1, hb.1, by rw [ha.2, hb.2], by rw [ha.2]; exact hw⟩
theorem em_gath {a wa k c : Nat} {Ra : List ay_Row} {ls : List Int32} (h : cv tc tb nt L X B) (hi : cv_in X a) (ha : cv_at tc tb L a wa Ra) (hl : ∀ c, c ∈ ls → ∃ j, c = nI j ∧ j < wa) (hn : ls.length ≤ 256) (hk : k ≤ 4) (hc : c < wa) (hB : cv_n X + Ra.length * (ls.length + 1) ≤ B) (hZ : ∀ p, p ∈ Z → p ∈ X) : em_P tc tb nt L (cp_gath a ls (nI k) (nI c)) Z B (ls.length + 1) (ex_gath ls k c Ra) := by
  have hw := (cv_w h ha).2
  have hle : (ex_gath ls k c Ra).length ≤ Ra.length := by
    unfold ex_gath
    rw [List.length_map]
    exact Nat.le_trans (sm_once_len _) (by rw [List.length_map]; exact Nat.le_refl _)
  have hl2 := Nat.mul_le_mul_right (ls.length + 1) hle
  refine cv_emit h ?_ ⟨a, k, c, rfl, rfl, ha.1, rfl, hn, ?_, rfl, hk, rfl, ?_⟩ (fun r hr => ?_) (Nat.le_trans hle (cv_w h ha).1) (by omega) (fun b hb => ?_) (by omega) hZ
  · show (ls.length + 1, ex_gath ls (nI k).toNatClampNeg (nI c).toNatClampNeg (ex_at tc tb L a).2) = _
    rw [ha.2, nI_clamp (by omega), nI_clamp (by omega)]
  · rw [ha.2]; exact hl
  · rw [ha.2]; exact hc
  · obtain ⟨q, hq, rfl⟩ := List.mem_map.mp hr
    rw [sm_once_mem, List.mem_map] at hq
    obtain ⟨y, -, rfl⟩ := hq
    rw [List.length_append]
    unfold ex_key; rw [List.length_map]; rfl
  · rcases hb with hb | hb
    · cases hb; exact hi
    · cases hb
theorem ex_top_sub {n m : Nat} : ∀ (p : Option ay_Row) (c : Nat) (R : List ay_Row), (∀ x, x ∈ ex_top n m p c R → x ∈ R) ∧ (ex_top n m p c R).length ≤ R.length
  | p, c, [] => by unfold ex_top; simp
  | p, c, x :: R => by
    rw [ex_top_cons]
    have ih := ex_top_sub (n := n) (m := m) (some x) (if p.map (List.take n) = some (x.take n) then c + 1 else 0) R
    generalize (if p.map (List.take n) = some (x.take n) then c + 1 else 0) = c' at ih ⊢
    split
    · refine ⟨fun y hy => ?_, by simp only [List.length_cons]; omega⟩
      rcases List.mem_cons.mp hy with rfl | hy
      · simp
      · simp [ih.1 y hy]
    · exact ⟨fun y hy => by simp [ih.1 y hy], by simp only [List.length_cons]; omega⟩
theorem em_top {a wa n m : Nat} {Ra : List ay_Row} (h : cv tc tb nt L X B) (hi : cv_in X a) (ha : cv_at tc tb L a wa Ra) (hn : n ≤ wa) (hm : m < 100000) (hB : cv_n X + Ra.length * wa ≤ B) (hZ : ∀ p, p ∈ Z → p ∈ X) : em_P tc tb nt L (cp_top a n (nI m)) Z B wa (ex_top n m none 0 (sm_srt Ra)) := by
  have hs := ex_top_sub (n := n) (m := m) none 0 (sm_srt Ra)
  have hl : (ex_top n m none 0 (sm_srt Ra)).length ≤ Ra.length := by rw [← (sm_srt_perm Ra).length_eq]; exact hs.2
  have hl2 := Nat.mul_le_mul_right wa hl
  refine cv_emit h ?_ ⟨a, m, rfl, rfl, ha.1, ?_, rfl, hm⟩ (sl_W_sub (cv_W h ha) fun r hr => (sm_srt_perm Ra).mem_iff.mp (hs.1 r hr)) (Nat.le_trans hl (cv_w h ha).1) (cv_w h ha).2 (fun b hb => ?_) (by omega) hZ
  · show ((ex_at tc tb L a).1, ex_top n (nI m).toNatClampNeg none 0 (sm_srt (ex_at tc tb L a).2)) = _
    rw [ha.2, nI_clamp (by omega)]
  · rw [ha.2]; exact hn
  · rcases hb with hb | hb
    · cases hb; exact hi
    · cases hb
theorem em_laid {k : Nat} (h : cv tc tb nt L X B) (hk : k < nt) (hk6 : k < 6) (hW : sl_W (tc k) (tb k)) (hl : (tb k).length ≤ 24) (hc : tc k ≤ 4) (hB : cv_n X + (tb k).length * tc k ≤ B) (hZ : ∀ p, p ∈ Z → p ∈ X) : em_P tc tb nt L (cp_laid (nI k)) Z B (tc k) (tb k) := by
  refine cv_emit h ?_ ⟨rfl, rfl, k, hk, rfl⟩ hW (by omega) (by omega) (fun b hb => ?_) hB hZ
  · show (tc (nI k).toNatClampNeg, tb (nI k).toNatClampNeg) = _
    rw [nI_clamp (by omega)]
  · rcases hb with hb | hb <;> cases hb
/-- a join, whatever it makes of each row -/
theorem em_join {a b wa wb k : Nat} {Ra Rb R : List ay_Row} {ls : List Int32} {v : Int32} (h : cv tc tb nt L X B) (hi : cv_in X a) (ha : cv_at tc tb L a wa Ra) (hj : cv_in X b) (hb : cv_at tc tb L b wb Rb) (hl : ∀ c, c ∈ ls → ∃ j, c = nI j ∧ j < wa) (hn : ls.length ≤ 256) (hn2 : ls.length ≤ wb) (hk : k ≤ 4) (hR : Ra.flatMap (ex_join1 k ls v wb Rb) = R) (hr : R.length ≤ 8192) (hw : wa + ex_more k wb ls.length < 100000) (hB : cv_n X + R.length * (wa + ex_more k wb ls.length) ≤ B) (hZ : ∀ p, p ∈ Z → p ∈ X) : em_P tc tb nt L (cp_join (nI k) a b ls v) Z B (wa + ex_more k wb ls.length) R := by
  have hWb := cv_W h hb
  refine cv_emit h ?_ ⟨a, b, k, rfl, rfl, ha.1, hb.1, rfl, hn, ?_, ?_, rfl, hk⟩ (fun y hy => ?_) hr hw (em_two rfl rfl hi hj) hB hZ
  · show ((ex_at tc tb L a).1 + ex_more (nI k).toNatClampNeg (ex_at tc tb L b).1 ls.length, (ex_at tc tb L a).2.flatMap (ex_join1 (nI k).toNatClampNeg ls v (ex_at tc tb L b).1 (ex_at tc tb L b).2)) = _
    rw [ha.2, hb.2, nI_clamp (by omega), hR]
  · rw [hb.2]; exact hn2
  · rw [ha.2]; exact hl
  · rw [← hR, List.mem_flatMap] at hy
    obtain ⟨x, hx, hy⟩ := hy
    have hxl := cv_W h ha x hx
    unfold ex_join1 at hy
    split at hy
    · rename_i q
      obtain ⟨s, hs, rfl⟩ := List.mem_map.mp hy
      have hs := (List.mem_filter.mp hs).1
      rw [List.length_append, List.length_drop, hWb s hs, hxl]
      unfold ex_more
      rw [if_pos q.1]
    · split at hy
      · rw [List.mem_singleton] at hy
        rw [hy, List.length_append, List.length_replicate, hxl]
      · cases hy
end EM
